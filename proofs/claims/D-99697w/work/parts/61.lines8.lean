/-! the twin's reader: the end of a line; the settings -/
set_option maxRecDepth 100000
set_option maxHeartbeats 200000
/-- the end of a line -/
def elF1 (σ : S8) : S8 := if σ.1 2 = 0 then (if σ.1 6 = 59 then σ else wrF σ 2) else σ
def elF (σ : S8) : S8 := if (elF1 σ).1 2 = 0 then tkF (elF1 σ) else elF1 σ
theorem okR_el1 {σ : S8} (h : okR σ) : okR (elF1 σ) := by
  unfold elF1
  split
  · split
    · exact h
    · exact okR_wr h
  · exact h
theorem okR_el {σ : S8} (h : okR σ) : okR (elF σ) := by
  unfold elF
  split
  · exact okR_tk (okR_el1 h)
  · exact okR_el1 h
theorem readLine274 (d : Nat) {σ : S8} (hk : okR σ) : Rn8 mX8_readLine (d + 7) 274 [] (fun _ => []) σ none (elF σ) := by
  have h1 := okR_el1 hk
  have fin : ∀ τ : S8, elF1 σ = τ → ((¬ τ.1 2 = 0 → none = (none : Option Value) ∧ elF σ = τ) ∧ (τ.1 2 = 0 → ∃ σ' : S8, Tw8 mX8_token (d + 6) [] τ none σ' ∧ none = (none : Option Value) ∧ elF σ = σ')) := by
    intro τ e
    unfold elF
    rw [e] at h1 ⊢
    exact ⟨fun q => ⟨rfl, by rw [if_neg q]⟩, fun q => ⟨_, tokenF8 (d + 4) h1, rfl, by rw [if_pos q]⟩⟩
  refine g8_readLine_274 ⟨fun q => fin σ ?_, fun q => ⟨fun z => fin σ ?_, fun z => ⟨_, wrongT8 (d + 5) σ 2, fin _ ?_⟩⟩⟩
  · unfold elF1; rw [if_neg q]
  · unfold elF1; rw [if_pos q, if_pos z]
  · unfold elF1; rw [if_pos q, if_neg z]
/-- a setting: that it is told (i), its value (j) -/
def seF (σ : S8) (w : Int64) (hi : Int32) (i j : Nat) : S8 := setI (tdF (setI σ i 1) w hi).2 j (tdF (setI σ i 1) w hi).1
theorem okR_se {σ : S8} {w : Int64} {hi : Int32} {i j : Nat} (h : okR σ) (i4 : i ≠ 4) (i5 : i ≠ 5) (j4 : j ≠ 4) (j5 : j ≠ 5) : okR (seF σ w hi i j) := okR_setI (okR_td (okR_setI h i4 i5)) j4 j5
/-- the last ways of a line: settings, else a fault -/
def ln5 (σ : S8) : S8 := if (isWF σ 1685217655 && decide (σ.1 58 = 0)) = true then seF σ 1685217655 999 58 47 else wrF σ 2
def ln4 (σ : S8) : S8 := if (isWF σ 1918986606 && decide (σ.1 57 = 0)) = true then seF σ 1918986606 100 57 46 else ln5 σ
def ln3 (σ : S8) : S8 := if (isWF σ 1818848101 && decide (σ.1 56 = 0)) = true then seF σ 1818848101 99 56 45 else ln4 σ
def ln2 (σ : S8) : S8 := if (isWF σ 1651469428 && decide (σ.1 55 = 0)) = true then seF σ 1651469428 999 55 44 else ln3 σ
def ln1 (σ : S8) : S8 := if (isWF σ 1700885369 && decide (σ.1 54 = 0)) = true then seF σ 1700885369 999 54 43 else ln2 σ
theorem okR_l5 {σ : S8} (h : okR σ) : okR (ln5 σ) := by
  unfold ln5
  split
  · exact okR_se h (by decide) (by decide) (by decide) (by decide)
  · exact okR_wr h
theorem okR_l4 {σ : S8} (h : okR σ) : okR (ln4 σ) := by
  unfold ln4
  split
  · exact okR_se h (by decide) (by decide) (by decide) (by decide)
  · exact okR_l5 h
theorem okR_l3 {σ : S8} (h : okR σ) : okR (ln3 σ) := by
  unfold ln3
  split
  · exact okR_se h (by decide) (by decide) (by decide) (by decide)
  · exact okR_l4 h
theorem okR_l2 {σ : S8} (h : okR σ) : okR (ln2 σ) := by
  unfold ln2
  split
  · exact okR_se h (by decide) (by decide) (by decide) (by decide)
  · exact okR_l3 h
theorem okR_l1 {σ : S8} (h : okR σ) : okR (ln1 σ) := by
  unfold ln1
  split
  · exact okR_se h (by decide) (by decide) (by decide) (by decide)
  · exact okR_l2 h
theorem line230 (d : Nat) {σ : S8} (hk : okR σ) : Rn8 mX8_readLine (d + 7) 230 [] (fun _ => []) σ none (elF (ln5 σ)) := by
  have hw : ¬ (isWF σ 1685217655 && decide (σ.1 58 = 0)) = true → Rn8 mX8_readLine (d + 7) 269 [] (fun _ => []) σ none (elF (ln5 σ)) := fun q => by
    unfold ln5
    rw [if_neg q]
    exact g8_readLine_269 ⟨_, wrongT8 (d + 5) σ 2, readLine274 d (okR_wr hk)⟩
  refine g8_readLine_230 ⟨_, _, isWordT8 (d + 5) σ 1685217655, fun q => hw ?_, fun q => ⟨fun z => hw ?_, fun z => ⟨_, _, toldT8 (d + 2) 1685217655 999 (okR_setI (j := 58) (x := 1) hk (by decide) (by decide)), ?_⟩⟩⟩
  · rw [bi_0] at q; rw [q, Bool.false_and]; decide
  · rw [decide_eq_false z, Bool.and_false]; decide
  · rw [bi_0, Bool.not_eq_false] at q
    unfold ln5
    rw [q, decide_eq_true z, if_pos (by decide)]
    exact readLine274 d (okR_se hk (by decide) (by decide) (by decide) (by decide))
theorem line192 (d : Nat) {σ : S8} (hk : okR σ) : Rn8 mX8_readLine (d + 7) 192 [] (fun _ => []) σ none (elF (ln4 σ)) := by
  have hw : ¬ (isWF σ 1918986606 && decide (σ.1 57 = 0)) = true → Rn8 mX8_readLine (d + 7) 230 [] (fun _ => []) σ none (elF (ln4 σ)) := fun q => by
    unfold ln4
    rw [if_neg q]
    exact line230 d hk
  refine g8_readLine_192 ⟨_, _, isWordT8 (d + 5) σ 1918986606, fun q => hw ?_, fun q => ⟨fun z => hw ?_, fun z => ⟨_, _, toldT8 (d + 2) 1918986606 100 (okR_setI (j := 57) (x := 1) hk (by decide) (by decide)), ?_⟩⟩⟩
  · rw [bi_0] at q; rw [q, Bool.false_and]; decide
  · rw [decide_eq_false z, Bool.and_false]; decide
  · rw [bi_0, Bool.not_eq_false] at q
    unfold ln4
    rw [q, decide_eq_true z, if_pos (by decide)]
    exact readLine274 d (okR_se hk (by decide) (by decide) (by decide) (by decide))
theorem line154 (d : Nat) {σ : S8} (hk : okR σ) : Rn8 mX8_readLine (d + 7) 154 [] (fun _ => []) σ none (elF (ln3 σ)) := by
  have hw : ¬ (isWF σ 1818848101 && decide (σ.1 56 = 0)) = true → Rn8 mX8_readLine (d + 7) 192 [] (fun _ => []) σ none (elF (ln3 σ)) := fun q => by
    unfold ln3
    rw [if_neg q]
    exact line192 d hk
  refine g8_readLine_154 ⟨_, _, isWordT8 (d + 5) σ 1818848101, fun q => hw ?_, fun q => ⟨fun z => hw ?_, fun z => ⟨_, _, toldT8 (d + 2) 1818848101 99 (okR_setI (j := 56) (x := 1) hk (by decide) (by decide)), ?_⟩⟩⟩
  · rw [bi_0] at q; rw [q, Bool.false_and]; decide
  · rw [decide_eq_false z, Bool.and_false]; decide
  · rw [bi_0, Bool.not_eq_false] at q
    unfold ln3
    rw [q, decide_eq_true z, if_pos (by decide)]
    exact readLine274 d (okR_se hk (by decide) (by decide) (by decide) (by decide))
theorem line115 (d : Nat) {σ : S8} (hk : okR σ) : Rn8 mX8_readLine (d + 7) 115 [] (fun _ => []) σ none (elF (ln2 σ)) := by
  have hw : ¬ (isWF σ 1651469428 && decide (σ.1 55 = 0)) = true → Rn8 mX8_readLine (d + 7) 154 [] (fun _ => []) σ none (elF (ln2 σ)) := fun q => by
    unfold ln2
    rw [if_neg q]
    exact line154 d hk
  refine g8_readLine_115 ⟨_, _, isWordT8 (d + 5) σ 1651469428, fun q => hw ?_, fun q => ⟨fun z => hw ?_, fun z => ⟨_, _, toldT8 (d + 2) 1651469428 999 (okR_setI (j := 55) (x := 1) hk (by decide) (by decide)), ?_⟩⟩⟩
  · rw [bi_0] at q; rw [q, Bool.false_and]; decide
  · rw [decide_eq_false z, Bool.and_false]; decide
  · rw [bi_0, Bool.not_eq_false] at q
    unfold ln2
    rw [q, decide_eq_true z, if_pos (by decide)]
    exact readLine274 d (okR_se hk (by decide) (by decide) (by decide) (by decide))
theorem line76 (d : Nat) {σ : S8} (hk : okR σ) : Rn8 mX8_readLine (d + 7) 76 [] (fun _ => []) σ none (elF (ln1 σ)) := by
  have hw : ¬ (isWF σ 1700885369 && decide (σ.1 54 = 0)) = true → Rn8 mX8_readLine (d + 7) 115 [] (fun _ => []) σ none (elF (ln1 σ)) := fun q => by
    unfold ln1
    rw [if_neg q]
    exact line115 d hk
  refine g8_readLine_76 ⟨_, _, isWordT8 (d + 5) σ 1700885369, fun q => hw ?_, fun q => ⟨fun z => hw ?_, fun z => ⟨_, _, toldT8 (d + 2) 1700885369 999 (okR_setI (j := 54) (x := 1) hk (by decide) (by decide)), ?_⟩⟩⟩
  · rw [bi_0] at q; rw [q, Bool.false_and]; decide
  · rw [decide_eq_false z, Bool.and_false]; decide
  · rw [bi_0, Bool.not_eq_false] at q
    unfold ln1
    rw [q, decide_eq_true z, if_pos (by decide)]
    exact readLine274 d (okR_se hk (by decide) (by decide) (by decide) (by decide))
