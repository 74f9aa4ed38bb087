/-! the twin's reader: its tokens -/
set_option maxRecDepth 100000
def ch (t : Nat → Int32) (len p : Nat) : Int32 := if p < len then t p else -1
/-- where the reader is -/
def okT (σ : S8) (len p : Nat) : Prop := σ.1 5 = nI len ∧ len ≤ 1600 ∧ σ.1 4 = nI p ∧ p ≤ len
theorem hereT8 (d : Nat) (σ : S8) {len p k : Nat} (h : okT σ len p) (hk : k ≤ 2000) : Tw8 mX8_here (d + 1) [.int (nI k)] σ (some (.int (ch (σ.2.1 0) len (p + k)))) σ := by
  obtain ⟨h1, h2, h3, h4⟩ := h
  refine Tw8.ofR [.int (nI k)] (by decide) (fun _ => rfl) (fun _ _ => Nat.le_of_ble_eq_true rfl) (g8_here_0 ?_)
  rw [h1, h3, nI_add]
  unfold ch
  by_cases c : p + k < len
  · rw [if_pos c, cl (by omega)]
    exact ⟨fun q => absurd q (nI_ge c (by omega)), fun _ => ⟨vin (by omega) (by decide), rfl, rfl⟩⟩
  · rw [if_neg c]
    exact ⟨fun _ => ⟨rfl, rfl⟩, fun q => absurd (nI_le (by omega) (by omega)) q⟩
def isSp (c : Int32) : Bool := decide (c = 32) || decide (c = 10)
/-- past what f holds of, n places at most -/
def runF (f : Int32 → Bool) (t : Nat → Int32) (len : Nat) : Nat → Nat → Nat
  | 0, p => p
  | n + 1, p => if f (ch t len p) then runF f t len n (p + 1) else p
def runTo (f : Int32 → Bool) (t : Nat → Int32) (len p : Nat) : Nat := runF f t len (len - p) p
theorem runTo_n {f : Int32 → Bool} {t : Nat → Int32} {len p : Nat} (h : f (ch t len p) = false) : runTo f t len p = p := by
  unfold runTo
  cases len - p with
  | zero => rfl
  | succ n =>
    show (if f (ch t len p) then _ else p) = p
    rw [h]
    rfl
theorem ch_lt {f : Int32 → Bool} (hf : f (-1) = false) {t : Nat → Int32} {len p : Nat} (h : f (ch t len p) = true) : p < len := by
  by_cases c : p < len
  · exact c
  · unfold ch at h
    rw [if_neg c, hf] at h
    exact absurd h (by decide)
theorem runTo_s {f : Int32 → Bool} (hf : f (-1) = false) {t : Nat → Int32} {len p : Nat} (h : f (ch t len p) = true) : runTo f t len p = runTo f t len (p + 1) := by
  have hl := ch_lt hf h
  unfold runTo
  have e : len - p = (len - (p + 1)) + 1 := by omega
  rw [e]
  show (if f (ch t len p) then _ else p) = _
  rw [h]
  rfl
theorem runTo_ge (f : Int32 → Bool) (t : Nat → Int32) (len : Nat) : ∀ n p, p ≤ runF f t len n p ∧ runF f t len n p ≤ p + n := by
  intro n
  induction n with
  | zero => exact fun p => ⟨Nat.le_refl _, Nat.le_refl _⟩
  | succ n ih =>
    intro p
    show p ≤ (if f (ch t len p) then runF f t len n (p + 1) else p) ∧ (if f (ch t len p) then runF f t len n (p + 1) else p) ≤ p + (n + 1)
    have := ih (p + 1)
    split <;> omega
theorem runTo_le (f : Int32 → Bool) (t : Nat → Int32) {len p : Nat} (h : p ≤ len) : p ≤ runTo f t len p ∧ runTo f t len p ≤ len := by
  have := runTo_ge f t len (len - p) p
  unfold runTo
  omega
def isL (c : Int32) : Bool := decide (¬ s8_isLetter c = 0)
def isD (c : Int32) : Bool := decide (¬ s8_isDigit c = 0)
def wdF (t : Nat → Int32) (p : Nat) : Nat → Int64 := acc8 (fun k w => if k < 8 then (w <<< ((8 : Int32).toInt64 &&& 63)) ||| (t (p + k)).toInt64 else w) 0
def nbF (t : Nat → Int32) (p : Nat) : Nat → Int32 := acc8 (fun k v => if k < 4 then ((10 * v) + t (p + k)) - 48 else v) 0
theorem wdF_s (t : Nat → Int32) (p k : Nat) : wdF t p (k + 1) = if k < 8 then (wdF t p k <<< ((8 : Int32).toInt64 &&& 63)) ||| (t (p + k)).toInt64 else wdF t p k := rfl
theorem nbF_s (t : Nat → Int32) (p k : Nat) : nbF t p (k + 1) = if k < 4 then ((10 * nbF t p k) + t (p + k)) - 48 else nbF t p k := rfl
/-- a token: its sort, its number, its word, where the next may begin -/
abbrev Tk : Type := Int32 × Int32 × Int64 × Nat
/-- the token at q (no blank) -/
def tokE (t : Nat → Int32) (len q : Nat) : Tk :=
  if ¬ 0 ≤ ch t len q then ⟨0, 0, 0, q⟩
  else if isL (ch t len q) then ⟨if runTo isL t len q - q ≤ 8 then 1 else 3, 0, wdF t q (runTo isL t len q - q), if runTo isL t len q - q ≤ 8 then runTo isL t len q else q⟩
  else if isD (ch t len q) then ⟨if 4 < runTo isD t len q - q ∨ isL (ch t len (runTo isD t len q)) then 3 else 2, nbF t q (runTo isD t len q - q), 0, if 4 < runTo isD t len q - q ∨ isL (ch t len (runTo isD t len q)) then q else runTo isD t len q⟩
  else if s8_isSign (ch t len q) = 0 then ⟨3, 0, 0, q⟩ else ⟨ch t len q, 0, 0, q + 1⟩
/-- the ints of a reader that has read the token k at q -/
def tokI (f : Nat → Int32) (q : Nat) (k : Tk) : Nat → Int32 := fun j => if j = 4 then nI k.2.2.2 else if j = 6 then k.1 else if j = 7 then nI q else if j = 8 then k.2.1 else f j
def tokS (σ : S8) (len p : Nat) : S8 := (tokI σ.1 (runTo isSp (σ.2.1 0) len p) (tokE (σ.2.1 0) len (runTo isSp (σ.2.1 0) len p)), σ.2.1, (tokE (σ.2.1 0) len (runTo isSp (σ.2.1 0) len p)).2.2.1, σ.2.2.2)
theorem tokS_4 (σ : S8) (x : Int32) (len p q : Nat) (h : runTo isSp (σ.2.1 0) len p = runTo isSp (σ.2.1 0) len q) : tokS (upd σ.1 4 x, σ.2.1, σ.2.2.1, σ.2.2.2) len p = tokS σ len q := by
  unfold tokS
  show (tokI (upd σ.1 4 x) (runTo isSp (σ.2.1 0) len p) (tokE (σ.2.1 0) len (runTo isSp (σ.2.1 0) len p)), σ.2.1, (tokE (σ.2.1 0) len (runTo isSp (σ.2.1 0) len p)).2.2.1, σ.2.2.2) = _
  rw [h]
  have : ∀ (q : Nat) (k : Tk), tokI (upd σ.1 4 x) q k = tokI σ.1 q k := by
    intro q k
    funext j
    unfold tokI
    by_cases e : j = 4
    · rw [if_pos e, if_pos e]
    · rw [if_neg e, if_neg e, upd_n e]
  rw [this]
