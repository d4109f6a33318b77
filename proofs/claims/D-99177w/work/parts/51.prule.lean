/-! ===== PURE: rules and send: 729 rules against 4096 pairs ===== -/
/-- a loop that counts up over states that change: the posts told by an invariant; the fuel is the same for all -/
theorem vloop {β : Type} (W : Nat → β → Nat → Prop) (I : Nat → β → Prop) (e : Nat) (hx : ∀ n b, I e b → W (n + 1) b e) (hs : ∀ n b i, i < e → I i b → (∀ b', I (i + 1) b' → W n b' (i + 1)) → W (n + 1) b i) : ∀ (k i : Nat) (b : β), i + k = e → I i b → W (k + 1) b i := by
  intro k
  induction k with
  | zero =>
    intro i b hi hI
    obtain rfl : i = e := hi
    exact hx 0 b hI
  | succ k ih =>
    intro i b hi hI
    exact hs (k + 1) b i (by omega) hI (fun b' hb' => ih (i + 1) b' (by omega) hb')
theorem fo_list {α : Type} (step : Nat → α → α) : ∀ (k i : Nat) (a : α), fo step k i a = (List.range' i k).foldl (fun a j => step j a) a := by
  intro k
  induction k with
  | zero => intro i a; rfl
  | succ k ih =>
    intro i a
    show fo step k (i + 1) (step i a) = _
    rw [ih, List.range'_succ]
    rfl
/-- the marks that rule i wants, and those that it bars, among the first d -/
def muN (i : Nat) : Nat → Nat
  | 0 => 0
  | d + 1 => muN i d + (if i / 3 ^ d % 3 = 1 then 2 ^ d else 0)
def noN (i : Nat) : Nat → Nat
  | 0 => 0
  | d + 1 => noN i d + (if i / 3 ^ d % 3 = 2 then 2 ^ d else 0)
def ruleOf (i : Nat) : Nat := 64 * muN i 6 + noN i 6
def okCode (c : Nat) : Bool := decide ((((nI c >>> ((6 : Int32) &&& 31)) &&& nI c) &&& (63 : Int32)) = 0)
theorem muN_lt (i d : Nat) : muN i d < 2 ^ d := by
  induction d with
  | zero => exact Nat.one_pos
  | succ d ih =>
    show muN i d + (if i / 3 ^ d % 3 = 1 then 2 ^ d else 0) < _
    rw [Nat.pow_succ]
    split <;> omega
theorem noN_lt (i d : Nat) : noN i d < 2 ^ d := by
  induction d with
  | zero => exact Nat.one_pos
  | succ d ih =>
    show noN i d + (if i / 3 ^ d % 3 = 2 then 2 ^ d else 0) < _
    rw [Nat.pow_succ]
    split <;> omega
theorem rule_or : ∀ (d : Fin 6) (M : Fin 32), M.val < 2 ^ d.val → nI M.val ||| ((1 : Int32) <<< (nI d.val &&& 31)) = nI (M.val + 2 ^ d.val) := by decide +kernel
theorem or_0 (M : Int32) : M ||| (0 : Int32) = M := Int32.or_zero
theorem rules_perm : ((List.range 729).map ruleOf).isPerm ((List.range 4096).filter okCode) = true := by decide +kernel
