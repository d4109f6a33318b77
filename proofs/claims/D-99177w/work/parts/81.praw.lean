/-! ===== PURE: raw cells: string builders ===== -/
def Ext (sh0 sh : List jH) : Prop := ∀ (j : Nat) (s : jH), sh0[j]? = some s → sh[j]? = some s
theorem Ext.refl {sh : List jH} : Ext sh sh := fun _ _ h => h
theorem Ext.trans {a b c : List jH} (h : Ext a b) (h2 : Ext b c) : Ext a c := fun j s hs => h2 j s (h j s hs)
theorem Ext.len {a b : List jH} (h : Ext a b) : a.length ≤ b.length := by
  rcases Nat.eq_zero_or_pos a.length with z | z
  · omega
  · have h1 : a[a.length - 1]? = some (a[a.length - 1]'(by omega)) := List.getElem?_eq_getElem (by omega)
    have := (List.getElem?_eq_some_iff.mp (h _ _ h1)).1
    omega
theorem Ext.set {a b : List jH} (h : Ext a b) {k : Nat} (hk : a.length ≤ k) {c : jH} : Ext a (b.set k c) := fun j s hs => by
  have hj := (List.getElem?_eq_some_iff.mp hs).1
  rw [List.getElem?_set_ne (by omega)]
  exact h j s hs
theorem Ext.push {a b : List jH} (h : Ext a b) {c : jH} : Ext a (b ++ [c]) := fun j s hs => by
  have h1 := h j s hs
  rw [List.getElem?_append_left (List.getElem?_eq_some_iff.mp h1).1]
  exact h1
theorem Ext.reg {a b L : List jH} {t : Nat} (h : Ext a b) (hr : jReg L a t) : jReg L b t := ⟨hr.1, fun j s hs => h _ _ (hr.2 j s hs)⟩
theorem Ext.con {a b : List jH} (h : Ext a b) (hc : ConSh a) : ConSh b := fun k c hk => h _ _ (hc k c hk)
theorem at_push {a : List jH} {c : jH} : (a ++ [c])[a.length]? = some c := by rw [List.getElem?_append_right (Nat.le_refl _), Nat.sub_self]; rfl
theorem ats {a : List jH} {k : Nat} {c s : jH} (h : a[k]? = some s) : (a.set k c)[k]? = some c := List.getElem?_set_self (List.getElem?_eq_some_iff.mp h).1
theorem at_setN {a : List jH} {k j : Nat} {c s : jH} (h : a[j]? = some s) (hn : k ≠ j) : (a.set k c)[j]? = some s := by rw [List.getElem?_set_ne hn]; exact h
/-- a string builder at b, its bytes at k -/
def SBS (sh : List jH) (b k N len : Nat) (f : Nat → Int32) : Prop := sh[b]? = some (jF (.inr (16, [.ref k, .int 0, .int 0, .int (nI len)]))) ∧ sh[k]? = some (jF (.inl (1, N, .inl f))) ∧ jn ≤ b ∧ jn ≤ k ∧ b ≠ k ∧ len ≤ N ∧ N < 100000 ∧ ∀ i, Jvm.fits .byte (.int (f i)) = true
theorem byte_n : ∀ n : Fin 128, vp_nar .byte (nI n.val).toInt8.toInt32 = nI n.val ∧ Jvm.fits .byte (.int (nI n.val)) = true := by decide +kernel
theorem shl_0 {n : Nat} (h : n < 2 ^ 31) : nI n <<< ((0 : Int32) &&& 31) = nI n := by
  rw [pk_shlN _ 0 (by decide) (by omega)]
  exact congrArg nI (Nat.mul_one n)
section RW
variable {sh sh0 : List jH} {V : Nat → Nat → Int32} {R : Nat → Nat → Option Nat} {c n b k N len : Nat} {f : Nat → Int32} {Q : Option Nat → List jC → Prop}
theorem s8_ensure {Q : List jC → Prop} (h : SBS sh b k N len f) (h0 : Ext sh0 sh) (hb : sh0.length ≤ b) (hk : sh0.length ≤ k) (hl : len < N ∨ (len = N ∧ 1 ≤ c ∧ 2 * N + 2 ≤ n)) (hN : N < 40000)
    (hq : ∀ sh' k' N' f', SBS sh' b k' N' len f' → Ext sh0 sh' → sh0.length ≤ k' → (∀ i, i < len → f' i = f i) → len < N' → (N' = N ∨ (len = N ∧ N' = 2 * N + 2)) → Q (mk sh' V R)) : wJ3_ensureCapacityInternal (mk sh V R) c n b (nI (len + 1)) Q := by
  have hS := h
  obtain ⟨h1, h2, h3, h4, h5, h6, h7, h8⟩ := h
  refine ⟨_, mk_atF h1, h3, some k, rfl, k, rfl, nI N, Or.inr (Or.inl ⟨_, f, mk_atF h2, rfl⟩), _, mk_atF h1, h3, 0, rfl, nm_r (shr_0 (by omega)) ?_⟩
  rcases hl with hl | ⟨rfl, hc, hn⟩
  · refine br_t ?_ (hq sh k N f hS h0 hk (fun _ _ => rfl) hl (Or.inl rfl))
    by_cases z : len + 1 = N
    · rw [z, pk_sub (Nat.le_refl _), Nat.sub_self]; decide
    · exact Int32.le_of_lt (pk_sneg (by omega) (by omega))
  · refine br_f ?_ ⟨_, mk_atF h1, h3, some k, rfl, _, mk_atF h1, 0, 0, c, n, by omega, by omega, ?_⟩
    · rw [pk_sub (by omega)]
      exact nI_nle (by omega) (by omega)
    · refine ⟨_, mk_atF h1, h3, some k, rfl, k, rfl, nI len, Or.inr (Or.inl ⟨_, f, mk_atF h2, rfl⟩), _, mk_atF h1, h3, 0, rfl, nm_r (shl_0 (by omega)) (nm_r (pk_sub (by omega)) ⟨_, mk_atF h1, h3, 0, rfl, nm_r (e' := nI (2 * len + 2)) ?_ ⟨fun z => ?_, fun _ => ⟨fun z => ?_, fun _ => ⟨fun _ => ⟨_, mk_atF h1, h3, 0, rfl, ?_⟩, fun z => ?_⟩⟩⟩⟩)⟩
      · rw [show ((2 : Int32) <<< ((0 : Int32) &&& 31)) = nI 2 by decide, nI_add, show len + 1 - len = 1 by omega, if_pos (nI_lt (by omega) (by omega)), nI_add]
        exact congrArg nI (by omega)
      · exact absurd z (nI_nle (by omega) (by omega))
      · exact absurd z (nI_nlt (b := 2 * len + 2) (a := 2147483639) (by omega) (by omega))
      · rw [shr_0 (by omega)]
        refine ⟨_, mk_atF h1, h3, 0, rfl, k, rfl, c, n, 0, 0, by omega, by omega, nI len, Or.inr (Or.inl ⟨_, f, mk_atF h2, rfl⟩), fun z => ?_, fun z => ?_⟩
        · rw [shl_0 (by omega)]
          obtain ⟨c', rfl⟩ : ∃ c', c = c' + 1 := ⟨c - 1, by omega⟩
          obtain ⟨n', rfl⟩ : ∃ n', n = n' + (2 * len + 2) := ⟨n - (2 * len + 2), by omega⟩
          have hbl := (List.getElem?_eq_some_iff.mp h1).1
          have hkl := (List.getElem?_eq_some_iff.mp h2).1
          have hj : jn ≤ sh.length := by omega
          have hgl : (mk sh V R).length = sh.length := mk_len _ _ _
          refine ⟨nI_pos (by omega), 2 * len + 2, c', n', nI_clamp (by omega), by omega, rfl, rfl, ?_⟩
          rw [hgl]
          refine nm_e ?_
          rw [mk_pushF]
          refine nm_e ?_
          have a1 : (sh ++ [jF (.inl (1, 2 * len + 2, .inl (fun _ => 0)))])[k]? = some (jF (.inl (1, len, .inl f))) := Ext.refl.push k _ h2
          have a2 : (sh ++ [jF (.inl (1, 2 * len + 2, .inl (fun _ => 0)))])[b]? = some (jF (.inr (16, [.ref k, .int 0, .int 0, .int (nI len)]))) := Ext.refl.push b _ h1
          have a3 : (sh ++ [jF (.inl (1, 2 * len + 2, .inl (fun _ => 0)))])[sh.length]? = some (jF (.inl (1, 2 * len + 2, .inl (fun _ => 0)))) := at_push
          have hmin : (if nI (2 * len + 2) < nI len then nI (2 * len + 2) else nI len) = nI len := if_neg (nI_nlt (by omega) (by omega))
          have hz : (0 : Int32).toNatClampNeg = 0 := by decide
          refine ⟨nI len, Or.inr (Or.inl ⟨_, f, mk_atF a1, rfl⟩), len, 2 * len + 2, f, _, mk_atF a1, mk_atF a3, h4, hj, by decide, by decide, ?_⟩
          rw [hmin, nI_clamp (by omega), hz]
          refine ⟨nI_pos (by omega), by omega, by omega, fun i _ => h8 _, ?_⟩
          rw [mk_setF a3]
          refine nm_e ?_
          have b2 := at_setN (k := sh.length) (c := jF (.inl (1, 2 * len + 2, .inl (va_cpy f (fun _ => 0) 0 0 len)))) a2 (by omega)
          have b3 := ats (c := jF (.inl (1, 2 * len + 2, .inl (va_cpy f (fun _ => 0) 0 0 len)))) a3
          refine ⟨_, mk_atF b2, h3, Nat.succ_pos _, ?_⟩
          rw [mk_setF b2]
          refine nm_e ?_
          refine hq _ sh.length (2 * len + 2) (va_cpy f (fun _ => 0) 0 0 len) ⟨ats b2, at_setN b3 (by omega), h3, hj, by omega, by omega, by omega, fun i => ?_⟩ ((h0.push.set h0.len).set hb) h0.len (fun i hi => ?_) (by omega) (Or.inr ⟨rfl, rfl⟩)
          · unfold va_cpy
            split
            · exact h8 _
            · exact (show Jvm.fits .byte (.int 0) = true by decide)
          · rw [pk_cpy_in (by omega) (by omega)]
            exact congrArg f (by omega)
        · rw [shl_0 (by omega)] at z
          have := (nI_eq (by omega) (by omega)).mp z
          omega
      · exact absurd ((nI_eq (b := 2147483647) (by omega) (by omega)).mp z) (by omega)
theorem s8_append {x : Nat} (h : SBS sh b k N len f) (h0 : Ext sh0 sh) (hb : sh0.length ≤ b) (hk : sh0.length ≤ k) (hx : x < 128) (hl : len < N ∨ (len = N ∧ 1 ≤ c ∧ 2 * N + 2 ≤ n)) (hN : N < 40000)
    (hq : ∀ sh' k' N' f', SBS sh' b k' N' (len + 1) f' → Ext sh0 sh' → sh0.length ≤ k' → (∀ i, i < len → f' i = f i) → f' len = nI x → (N' = N ∨ (len = N ∧ N' = 2 * N + 2)) → Q (some b) (mk sh' V R)) : wJ4_append (mk sh V R) c n b (nI x) Q := by
  have h1 := h.1
  have h3 := h.2.2.1
  refine ⟨_, mk_atF h1, h3, c, n, 0, 0, by omega, by omega, _, mk_atF h1, h3, nI len, rfl, _, mk_atF h1, c, n, 0, 0, by omega, by omega, ?_⟩
  rw [nI_1]
  refine s8_ensure h h0 hb hk hl hN (fun sh' k' N' f' g he hk' hf hlt hN' => ?_)
  obtain ⟨g1, g2, g3, g4, g5, g6, g7, g8⟩ := g
  refine ⟨_, mk_atF g1, br_f (by decide) ⟨_, mk_atF g1, g3, 0, rfl, fun z => absurd rfl z, fun _ => br_f (by decide) ⟨fun z => ?_, fun _ => br_f (by decide) ⟨_, mk_atF g1, g3, some k', rfl, _, mk_atF g1, g3, nI len, rfl, nm_r (nI_1 len) ⟨_, mk_atF g1, g3, by show 3 < 4; decide, ?_⟩⟩⟩⟩⟩
  · exact absurd z (nI_nlt (b := x) (a := 255) (by omega) (by decide))
  · rw [mk_setF g1]
    refine nm_e ?_
    have e1 := ats (c := jF (.inr (16, [.ref k', .int 0, .int 0, .int (nI (len + 1))]))) g1
    have e2 := at_setN (k := b) (c := jF (.inr (16, [.ref k', .int 0, .int 0, .int (nI (len + 1))]))) g2 g5
    refine ⟨k', rfl, N', f', mk_atF e2, g4, vp_in_nI hlt (by omega), ?_⟩
    show ∀ g41 : List jC, g41 = (mk (sh'.set b (jF (.inr (16, [.ref k', .int 0, .int 0, .int (nI (len + 1))])))) V R).set k' _ → Q (some b) g41
    rw [mk_setF e2, nI_clamp (by omega), (byte_n ⟨x, hx⟩).1]
    refine nm_e ?_
    refine hq _ k' N' (upd f' len (nI x)) ⟨at_setN e1 g5.symm, ats e2, g3, g4, g5, by omega, g7, fun i => ?_⟩ ((he.set hb).set hk') hk' (fun i hi => ?_) pk_us hN'
    · unfold upd
      split
      · exact (byte_n ⟨x, hx⟩).2
      · exact g8 i
    · rw [pk_un (by omega)]
      exact hf i hi
theorem s8_toString (h : SBS sh b k N len f) (h0 : Ext sh0 sh) (hc : 2 ≤ c) (hn : 4 + len ≤ n)
    (hq : ∀ sh' q q1 f', sh'[q]? = some (jF (.inr (17, [.ref q1, .int 0, .int 0, .int 0]))) → sh'[q1]? = some (jF (.inl (1, len, .inl f'))) → (∀ i, i < len → f' i = f i) → jn ≤ q → jn ≤ q1 → Ext sh0 sh' → sh0.length ≤ q → sh0.length ≤ q1 → q ≠ q1 → Q (some q) (mk sh' V R)) : wJ4_toString (mk sh V R) c n b Q := by
  obtain ⟨h1, h2, h3, h4, h5, h6, h7, h8⟩ := h
  have hbl := (List.getElem?_eq_some_iff.mp h1).1
  have hkl := (List.getElem?_eq_some_iff.mp h2).1
  have hj : jn ≤ sh.length := by omega
  have hgl : (mk sh V R).length = sh.length := mk_len _ _ _
  refine ⟨c - 1, n - 4, by omega, by omega, ?_⟩
  rw [hgl]
  refine nm_e ?_
  rw [mk_pushF]
  refine nm_e ⟨c - 1, n - 4, 0, 0, by omega, by omega, c - 1, n - 4, 0, 0, by omega, by omega, ?_⟩
  have a1 : (sh ++ [jF (.inr (17, [.null, .int 0, .int 0, .int 0]))])[b]? = some (jF (.inr (16, [.ref k, .int 0, .int 0, .int (nI len)]))) := Ext.refl.push b _ h1
  have a2 : (sh ++ [jF (.inr (17, [.null, .int 0, .int 0, .int 0]))])[k]? = some (jF (.inl (1, N, .inl f))) := Ext.refl.push k _ h2
  have a3 : (sh ++ [jF (.inr (17, [.null, .int 0, .int 0, .int 0]))])[sh.length]? = some (jF (.inr (17, [.null, .int 0, .int 0, .int 0]))) := at_push
  refine ⟨_, mk_atF a1, _, mk_atF a1, h3, some k, rfl, _, mk_atF a1, ⟨_, mk_atF a1, h3, _, mk_atF a1, h3, nI len, rfl, _, mk_atF a1, br_f (by decide) ⟨_, mk_atF a1, h3, 0, rfl, fun z => absurd rfl z, fun _ => br_f (by decide) ⟨_, mk_atF a3, hj, by show 1 < 4; decide, ?_⟩⟩⟩⟩
  rw [mk_setF a3]
  refine nm_e ⟨k, rfl, c - 1, n - 4, 0, 0, by omega, by omega, ?_⟩
  have b2 := at_setN (k := sh.length) (c := jF (.inr (17, [.null, .int 0, .int 0, .int 0]))) a2 (by omega)
  have b3 := ats (c := jF (.inr (17, [.null, .int 0, .int 0, .int 0]))) a3
  have ex : Ext sh ((sh ++ [jF (.inr (17, [.null, .int 0, .int 0, .int 0]))]).set sh.length (jF (.inr (17, [.null, .int 0, .int 0, .int 0])))) := (Ext.refl.push).set (Nat.le_refl _)
  show wJ9_copyOfRange (mk ((sh ++ [jF (.inr (17, [.null, .int 0, .int 0, .int 0]))]).set sh.length (jF (.inr (17, [.null, .int 0, .int 0, .int 0])))) V R) (c - 1) (n - 4) k 0 (nI len) _
  generalize hs2 : (sh ++ [jF (.inr (17, [.null, .int 0, .int 0, .int 0]))]).set sh.length (jF (.inr (17, [.null, .int 0, .int 0, .int 0]))) = s2 at b2 b3 ex ⊢
  have hl2 : s2.length = sh.length + 1 := by rw [← hs2, List.length_set, List.length_append]; rfl
  have hg2 : (mk s2 V R).length = s2.length := mk_len _ _ _
  -- the string gets its bytes
  have fin : ∀ (f' : Nat → Int32) (s3 : List jH), Ext s2 s3 → s3[s2.length]? = some (jF (.inl (1, len, .inl f'))) → (∀ i, i < len → f' i = f i) → ∃ fs35 : List Value, (mk s3 V R)[sh.length]? = some (.inr (17, fs35)) ∧ jn ≤ sh.length ∧ 0 < fs35.length ∧ (∀ g35 : List jC, g35 = (mk s3 V R).set sh.length (.inr (17, fs35.set 0 (va_rf (some s2.length)))) → Q (some sh.length) g35) := by
    intro f' s3 e3 g3 hf
    have c3 := e3 _ _ b3
    refine ⟨_, mk_atF c3, hj, Nat.succ_pos _, ?_⟩
    rw [mk_setF c3]
    refine nm_e (hq _ sh.length s2.length f' (ats c3) (at_setN g3 (by omega)) hf hj (by omega) (((h0.trans ex).trans e3).set h0.len) h0.len (by have := h0.len; omega) (by omega))
  refine ⟨fun z => absurd rfl z, fun _ => ⟨nI N, Or.inr (Or.inl ⟨_, f, mk_atF b2, rfl⟩), fun z => ?_, fun z => ?_⟩⟩
  · have hlN : len = N := (nI_eq (by omega) (by omega)).mp z
    subst hlN
    refine ⟨len, f, mk_atF b2, h4, fun i _ => h8 i, c - 2, n - 4 - len, by omega, by omega, ?_⟩
    rw [hg2]
    refine nm_e ?_
    rw [mk_pushF]
    refine nm_e ⟨by omega, mk_atF at_push, fin f _ Ext.refl.push at_push (fun _ _ => rfl)⟩
  · have hlN : ¬ len = N := fun q => z (by rw [q])
    refine ⟨c - 1, n - 4, 0, 0, by omega, by omega, 0, 0, c - 1, n - 4, by omega, by omega, br_t (nI_pos' (by omega)) ?_⟩
    refine nm_r (e' := nI len) (by simp) ?_
    refine ⟨nI_pos (by omega), len, c - 2, n - 4 - len, nI_clamp (by omega), by omega, by omega, by omega, ?_⟩
    rw [hg2]
    refine nm_e ?_
    rw [mk_pushF]
    refine nm_e ?_
    have c2 : (s2 ++ [jF (.inl (1, len, .inl (fun _ => 0)))])[k]? = some (jF (.inl (1, N, .inl f))) := Ext.refl.push k _ b2
    have c3 : (s2 ++ [jF (.inl (1, len, .inl (fun _ => 0)))])[s2.length]? = some (jF (.inl (1, len, .inl (fun _ => 0)))) := at_push
    have hmin : (if nI len < nI N - 0 then nI len else nI N - 0) = nI len := by
      rw [show nI N - (0 : Int32) = nI N by simp]
      exact if_pos (nI_lt (by omega) (by omega))
    have hz : (0 : Int32).toNatClampNeg = 0 := by decide
    refine ⟨nI N, Or.inr (Or.inl ⟨_, f, mk_atF c2, rfl⟩), N, len, f, _, mk_atF c2, mk_atF c3, h4, by omega, by decide, by decide, ?_⟩
    rw [hmin, nI_clamp (by omega), hz]
    refine ⟨nI_pos (by omega), by omega, by omega, fun i _ => h8 _, ?_⟩
    rw [mk_setF c3]
    refine nm_e (fin _ _ ((Ext.refl.push).set (Nat.le_refl _)) (ats c3) (fun i hi => ?_))
    rw [pk_cpy_in (by omega) (by omega)]
    exact congrArg f (by omega)
end RW
