/-! ===== rows for walks over heaps as they are (raw) ===== -/
def jPa (g : List jC) (Q : Option Nat → Prop) : Option Value → List jC → Prop := fun o g' => g' = g ∧ ∃ r, o = some (va_rf r) ∧ Q r
def jWi (Q : Int32 → List jC → Prop) : Option Value → List jC → Prop := fun o g' => ∃ r, o = some (.int r) ∧ Q r g'
def jWa (Q : Option Nat → List jC → Prop) : Option Value → List jC → Prop := fun o g' => ∃ r, o = some (va_rf r) ∧ Q r g'
def jWn (Q : List jC → Prop) : Option Value → List jC → Prop := fun o g' => o = none ∧ Q g'
theorem va_rf_nr (r : Option Nat) : va_rf r = .null ∨ ∃ a, va_rf r = .ref a := by
  cases r with
  | none => exact Or.inl rfl
  | some a => exact Or.inr ⟨a, rfl⟩
section JRAW
variable {G : jG} {l : Launch} {M : jM} {d c n pc : Nat} {lv : List (Nat × Value)} {st : List Value} {g : List jC} {post : Option Value → List jC → Prop} {xp : String → List jC → Prop}
theorem J.aloadQ_n (q : Nat) {f : Fin 4} {o : Option Nat} (hd : decode M.2.1 pc = .ok (.aload_n f, 1)) (hk : lv[q]? = some ((f : Nat), va_rf o)) (k : J G l M d c n (pc + 1) lv (va_rf o :: st) g post xp) : J G l M d c n pc lv st g post xp := by
  cases o with
  | none => exact J.aload_nN q hd hk k
  | some a => exact J.aload_n q hd hk k
theorem J.aloadQ (q : Nat) {i : Nat} {o : Option Nat} (hd : decode M.2.1 pc = .ok (.aload i, 2)) (hk : lv[q]? = some (i, va_rf o)) (k : J G l M d c n (pc + 2) lv (va_rf o :: st) g post xp) : J G l M d c n pc lv st g post xp := by
  cases o with
  | none => exact J.aloadN q hd hk k
  | some a => exact J.aload q hd hk k
theorem J.astoreQ_n {f : Fin 4} {o : Option Nat} {lv' : List (Nat × Value)} (hd : decode M.2.1 pc = .ok (.astore_n f, 1)) (hn : (f : Nat) < M.2.2.1) (hq : jst1 lv (f : Nat) (va_rf o) = lv') (k : J G l M d c n (pc + 1) lv' st g post xp) : J G l M d c n pc lv (va_rf o :: st) g post xp := by
  cases o with
  | none => exact J.astore_nN hd hn hq k
  | some a => exact J.astore_n hd hn hq k
theorem J.astoreQ {i : Nat} {o : Option Nat} {lv' : List (Nat × Value)} (hd : decode M.2.1 pc = .ok (.astore i, 2)) (hn : i < M.2.2.1) (hq : jst1 lv i (va_rf o) = lv') (k : J G l M d c n (pc + 2) lv' st g post xp) : J G l M d c n pc lv (va_rf o :: st) g post xp := by
  cases o with
  | none => exact J.astoreN hd hn hq k
  | some a => exact J.astore hd hn hq k
theorem J.ifnullQ {off : Int} (tgt : Nat) {o : Option Nat} (hd : decode M.2.1 pc = .ok (.ifnull off, 3)) (ht : (pc : Int) + off = (tgt : Int)) (k1 : o = none → J G l M d c n tgt lv st g post xp) (k2 : ∀ a, o = some a → J G l M d c n (pc + 3) lv st g post xp) : J G l M d c n pc lv (va_rf o :: st) g post xp := by
  cases o with
  | none => exact J.ifnullN tgt hd ht (k1 rfl)
  | some a => exact J.ifnull hd (k2 a rfl)
theorem J.ifnonnullQ {off : Int} (tgt : Nat) {o : Option Nat} (hd : decode M.2.1 pc = .ok (.ifnonnull off, 3)) (ht : (pc : Int) + off = (tgt : Int)) (k1 : ∀ a, o = some a → J G l M d c n tgt lv st g post xp) (k2 : o = none → J G l M d c n (pc + 3) lv st g post xp) : J G l M d c n pc lv (va_rf o :: st) g post xp := by
  cases o with
  | none => exact J.ifnonnullN hd (k2 rfl)
  | some a => exact J.ifnonnull tgt hd ht (k1 a rfl)
/-- the heap gets a name -/
theorem J.nmg {P : List jC → Prop} (h : ∀ y, y = g → P y) (k : ∀ y, P y → J G l M d c n pc lv st y post xp) : J G l M d c n pc lv st g post xp := k g (h g rfl)
/-- a reference at the stack's top gets a name -/
theorem J.nmq {P : Option Nat → Prop} {x : Option Nat} (h : ∀ y, y = x → P y) (k : ∀ y, P y → J G l M d c n pc lv (va_rf y :: st) g post xp) : J G l M d c n pc lv (va_rf x :: st) g post xp := k x (h x rfl)
theorem J.nmr {P : Nat → Prop} {x : Nat} (h : ∀ y, y = x → P y) (k : ∀ y, P y → J G l M d c n pc lv (.ref y :: st) g post xp) : J G l M d c n pc lv (.ref x :: st) g post xp := k x (h x rfl)
end JRAW
