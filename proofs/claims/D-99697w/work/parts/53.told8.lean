/-! the twin's reader: what is told, as functions of its state -/
set_option maxRecDepth 100000
def okR (σ : S8) : Prop := ∃ len p, okT σ len p
def tkF (σ : S8) : S8 := tokS σ (σ.1 5).toNatClampNeg (σ.1 4).toNatClampNeg
theorem tkF_e {σ : S8} {len p : Nat} (h : okT σ len p) : tkF σ = tokS σ len p := by
  have h2 := h.2.1
  have h4 := h.2.2.2
  unfold tkF
  rw [h.1, h.2.2.1, cl (by omega), cl (by omega)]
theorem tokenF8 (d : Nat) {σ : S8} (h : okR σ) : Tw8 mX8_token (d + 2) [] σ none (tkF σ) := by
  obtain ⟨len, p, h⟩ := h
  rw [tkF_e h]
  exact tokenT8 d σ h
theorem tokE_le {t : Nat → Int32} {len q : Nat} (hq : q ≤ len) : (tokE t len q).2.2.2 ≤ len := by
  unfold tokE
  have h1 := runTo_le isL t hq
  have h2 := runTo_le isD t hq
  by_cases c : ¬ 0 ≤ ch t len q
  · rw [if_pos c]; exact hq
  rw [if_neg c]
  by_cases cL : isL (ch t len q) = true
  · rw [if_pos cL]
    show (if runTo isL t len q - q ≤ 8 then runTo isL t len q else q) ≤ len
    split <;> omega
  rw [if_neg cL]
  by_cases cD : isD (ch t len q) = true
  · rw [if_pos cD]
    show (if 4 < runTo isD t len q - q ∨ isL (ch t len (runTo isD t len q)) then q else runTo isD t len q) ≤ len
    split <;> omega
  rw [if_neg cD]
  have hlt : q < len := by
    by_cases z : q < len
    · exact z
    · unfold ch at c
      rw [if_neg z] at c
      exact absurd (Classical.not_not.mp c) (by decide)
  split
  · exact hq
  · exact hlt
theorem okR_tk {σ : S8} (h : okR σ) : okR (tkF σ) := by
  obtain ⟨len, p, h⟩ := h
  rw [tkF_e h]
  exact ⟨len, (tokE (σ.2.1 0) len (runTo isSp (σ.2.1 0) len p)).2.2.2, h.1, h.2.1, rfl, tokE_le (runTo_le isSp (σ.2.1 0) h.2.2.2).2⟩
def isWF (σ : S8) (w : Int64) : Bool := decide (σ.1 6 = 1) && decide (lg_cmp σ.2.2.1 w = 0)
theorem isWordT8 (d : Nat) (σ : S8) (w : Int64) : Tw8 mX8_isWord (d + 1) [.long w] σ (some (.int (bi (isWF σ w)))) σ := by
  refine Tw8.ofR [.long w, U_] (by decide) (fun _ => rfl) (fun _ _ => Nat.le_of_ble_eq_true rfl) (g8_isWord_0 ⟨?_, rfl⟩)
  unfold isWF
  by_cases h1 : σ.1 6 = 1
  · rw [if_pos h1, decide_eq_true h1, Bool.true_and, bi_if]
  · rw [if_neg h1, decide_eq_false h1, Bool.false_and]
    rfl
def wrF (σ : S8) (what : Int32) : S8 := if σ.1 2 ≤ 0 then (upd (upd σ.1 2 (if σ.1 6 = 3 then 1 else what)) 3 (σ.1 7), σ.2.1, σ.2.2.1, σ.2.2.2) else σ
theorem wrongT8 (d : Nat) (σ : S8) (what : Int32) : Tw8 mX8_wrong (d + 1) [.int what] σ none (wrF σ what) := by
  refine Tw8.ofR [.int what] (by decide) (fun _ => rfl) (fun _ _ => Nat.le_of_ble_eq_true rfl) (g8_wrong_0 ?_)
  unfold wrF
  by_cases h : σ.1 2 ≤ 0
  · rw [if_pos h]; exact ⟨fun _ => ⟨rfl, rfl⟩, fun q => absurd h q⟩
  · rw [if_neg h]; exact ⟨fun q => absurd q h, fun _ => ⟨rfl, rfl⟩⟩
theorem okR_wr {σ : S8} {what : Int32} (h : okR σ) : okR (wrF σ what) := by
  obtain ⟨len, p, h⟩ := h
  unfold wrF
  split
  · exact ⟨len, p, h⟩
  · exact ⟨len, p, h⟩
def wnF (σ : S8) (w : Int64) : S8 := if σ.1 2 ≤ 0 then (if isWF σ w then tkF σ else wrF σ 2) else σ
theorem okR_wn {σ : S8} {w : Int64} (h : okR σ) : okR (wnF σ w) := by
  unfold wnF
  split
  · split
    · exact okR_tk h
    · exact okR_wr h
  · exact h
theorem wantT8 (d : Nat) {σ : S8} (w : Int64) (hk : okR σ) : Tw8 mX8_want (d + 3) [.long w] σ none (wnF σ w) := by
  refine Tw8.ofR [.long w, U_] (by decide) (fun _ => rfl) (fun _ _ => Nat.le_of_ble_eq_true rfl) (g8_want_0 ?_)
  unfold wnF
  by_cases h : σ.1 2 ≤ 0
  · rw [if_pos h]
    refine ⟨fun _ => ⟨_, _, isWordT8 (d + 1) σ w, ?_⟩, fun q => absurd h q⟩
    cases hw : isWF σ w
    · exact ⟨fun q => absurd rfl q, fun _ => ⟨_, wrongT8 (d + 1) σ 2, rfl, rfl⟩⟩
    · exact ⟨fun _ => ⟨_, tokenF8 d hk, rfl, rfl⟩, fun q => absurd q (by decide)⟩
  · rw [if_neg h]; exact ⟨fun q => absurd q h, fun _ => ⟨rfl, rfl⟩⟩
/-- what the number is found to be -/
def nuF (σ : S8) (lo hi : Int32) : S8 := if σ.1 6 = 2 then (if σ.1 8 < lo then wrF σ 4 else if σ.1 8 ≤ hi then σ else wrF σ 4) else wrF σ 2
def tnF (σ : S8) (lo hi : Int32) : Int32 × S8 := if σ.1 2 ≤ 0 then ((nuF σ lo hi).1 8, if (nuF σ lo hi).1 2 = 0 then tkF (nuF σ lo hi) else nuF σ lo hi) else (0, σ)
theorem okR_nu {σ : S8} {lo hi : Int32} (h : okR σ) : okR (nuF σ lo hi) := by
  unfold nuF
  split
  · split
    · exact okR_wr h
    · split
      · exact h
      · exact okR_wr h
  · exact okR_wr h
theorem okR_tn {σ : S8} {lo hi : Int32} (h : okR σ) : okR (tnF σ lo hi).2 := by
  unfold tnF
  split
  · show okR (if (nuF σ lo hi).1 2 = 0 then tkF (nuF σ lo hi) else nuF σ lo hi)
    split
    · exact okR_tk (okR_nu h)
    · exact okR_nu h
  · exact h
theorem toldNumberT8 (d : Nat) {σ : S8} (lo hi : Int32) (hk : okR σ) : Tw8 mX8_toldNumber (d + 3) [.int lo, .int hi] σ (some (.int (tnF σ lo hi).1)) (tnF σ lo hi).2 := by
  refine Tw8.ofR [.int lo, .int hi, U_] (by decide) (fun _ => rfl) (fun _ _ => Nat.le_of_ble_eq_true rfl) (g8_toldNumber_0 ?_)
  have hnu := okR_nu (lo := lo) (hi := hi) hk
  have fin : ∀ τ : S8, nuF σ lo hi = τ → ((¬ τ.1 2 = 0 → some (Value.int ((nuF σ lo hi).1 8)) = some (.int (τ.1 8)) ∧ (if (nuF σ lo hi).1 2 = 0 then tkF (nuF σ lo hi) else nuF σ lo hi) = τ) ∧ (τ.1 2 = 0 → ∃ σ' : S8, Tw8 mX8_token (d + 2) [] τ none σ' ∧ some (Value.int ((nuF σ lo hi).1 8)) = some (.int (τ.1 8)) ∧ (if (nuF σ lo hi).1 2 = 0 then tkF (nuF σ lo hi) else nuF σ lo hi) = σ')) := by
    intro τ e
    rw [e] at hnu ⊢
    exact ⟨fun q => ⟨rfl, by rw [if_neg q]⟩, fun q => ⟨_, tokenF8 d hnu, rfl, by rw [if_pos q]⟩⟩
  unfold tnF
  by_cases h : σ.1 2 ≤ 0
  · rw [if_pos h]
    refine ⟨fun _ => ⟨fun h6 => ⟨fun hl => ⟨_, wrongT8 (d + 1) σ 4, fin _ ?_⟩, fun hl => ⟨fun hh => fin _ ?_, fun hh => ⟨_, wrongT8 (d + 1) σ 4, fin _ ?_⟩⟩⟩, fun h6 => ⟨_, wrongT8 (d + 1) σ 2, fin _ ?_⟩⟩, fun q => absurd h q⟩
    · unfold nuF; rw [if_pos h6, if_pos hl]
    · unfold nuF; rw [if_pos h6, if_neg hl, if_pos hh]
    · unfold nuF; rw [if_pos h6, if_neg hl, if_neg hh]
    · unfold nuF; rw [if_neg h6]
  · rw [if_neg h]; exact ⟨fun q => absurd q h, fun _ => ⟨rfl, rfl⟩⟩
def tdF (σ : S8) (w : Int64) (hi : Int32) : Int32 × S8 := tnF (wnF σ w) 0 hi
theorem toldT8 (d : Nat) {σ : S8} (w : Int64) (hi : Int32) (hk : okR σ) : Tw8 mX8_told (d + 4) [.long w, .int hi] σ (some (.int (tdF σ w hi).1)) (tdF σ w hi).2 :=
  Tw8.ofR [.long w, U_, .int hi] (by decide) (fun _ => rfl) (fun _ _ => Nat.le_of_ble_eq_true rfl) (g8_told_0 ⟨_, wantT8 d w hk, _, _, toldNumberT8 d 0 hi (okR_wn hk), rfl, rfl⟩)
theorem okR_td {σ : S8} {w : Int64} {hi : Int32} (h : okR σ) : okR (tdF σ w hi).2 := okR_tn (okR_wn h)
def opF (σ : S8) (w : Int64) (hi : Int32) : Int32 × S8 := if σ.1 2 = 0 ∧ isWF σ w = true then tdF σ w hi else (0, σ)
theorem okR_op {σ : S8} {w : Int64} {hi : Int32} (h : okR σ) : okR (opF σ w hi).2 := by
  unfold opF
  split
  · exact okR_td h
  · exact h
theorem optionT8 (d : Nat) {σ : S8} (w : Int64) (hi : Int32) (hk : okR σ) : Tw8 mX8_option (d + 5) [.long w, .int hi] σ (some (.int (opF σ w hi).1)) (opF σ w hi).2 := by
  refine Tw8.ofR [.long w, U_, .int hi] (by decide) (fun _ => rfl) (fun _ _ => Nat.le_of_ble_eq_true rfl) (g8_option_0 ?_)
  unfold opF
  by_cases h : σ.1 2 = 0
  · refine ⟨fun q => absurd h q, fun _ => ⟨_, _, isWordT8 (d + 3) σ w, ?_⟩⟩
    cases hw : isWF σ w
    · rw [if_neg (fun z => absurd z.2 (by decide))]
      exact ⟨fun _ => ⟨rfl, rfl⟩, fun q => absurd rfl q⟩
    · rw [if_pos ⟨h, rfl⟩]
      exact ⟨fun q => absurd q (by decide), fun _ => ⟨_, _, toldT8 d w hi hk, rfl, rfl⟩⟩
  · rw [if_neg (fun z => h z.1)]
    exact ⟨fun _ => ⟨rfl, rfl⟩, fun q => absurd q h⟩
