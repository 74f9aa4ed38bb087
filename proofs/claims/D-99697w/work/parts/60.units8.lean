/-! the twin's reader: a unit -/
set_option maxRecDepth 100000
set_option maxHeartbeats 200000
theorem cuF_j (τ : S8) (j : Nat) (j1 : j ≠ 20) (j2 : j ≠ 22) : (cuF τ).1 j = τ.1 j := by
  show upd (upd τ.1 20 (τ.1 20 + 1)) 22 (τ.1 22 + 1) j = _
  rw [upd_n j2, upd_n j1]
theorem okR_cu {τ : S8} (h : okR τ) : okR (cuF τ) := by
  obtain ⟨len, p, z⟩ := h
  exact ⟨len, p, by rw [cuF_j τ 5 (by decide) (by decide)]; exact z.1, z.2.1, by rw [cuF_j τ 4 (by decide) (by decide)]; exact z.2.2.1, z.2.2.2⟩
theorem ouF_17 (σ : S8) (what : Int32) (n : Nat) : (ouF σ what n).1 17 = σ.1 17 := by
  have a : (ouF0 σ what n).1 17 = σ.1 17 := by
    show upd (upd σ.1 19 (nI (n + 1))) 23 (σ.1 23 + 1) 17 = _
    rw [upd_n (by decide), upd_n (by decide)]
  unfold ouF
  split
  · exact ((kR_tk _).1 17 (by decide)).trans a
  · exact a
theorem unL_ok : ∀ (k n : Nat) (σ : S8), okR σ → okR (unL k n σ) ∧ (unL k n σ).1 17 = σ.1 17 := by
  intro k
  induction k with
  | zero => exact fun n σ h => ⟨h, rfl⟩
  | succ k ih =>
    intro n σ h
    unfold unL
    split
    · split
      · have a := ih (n + 1) (ouF (wiF (deepB σ) σ) 21 n) (okR_ou (okR_wi h))
        exact ⟨a.1, a.2.trans ((ouF_17 _ _ _).trans ((kR_wi _ _).1 17 (by decide)))⟩
      · split
        · have a := ih (n + 1) (ouF (cuF (wiF (fullF σ || deepB σ) σ)) 20 n) (okR_ou (okR_cu (okR_wi h)))
          exact ⟨a.1, a.2.trans ((ouF_17 _ _ _).trans ((cuF_j _ 17 (by decide) (by decide)).trans ((kR_wi _ _).1 17 (by decide))))⟩
        · exact ⟨h, rfl⟩
    · exact ⟨h, rfl⟩
/-- whether no unit may stand here -/
def badU (σ : S8) : Bool := (decide (¬ σ.1 6 = 2) && decide (askF σ < 0)) || fullF σ
def u3F (τ : S8) (a : Int32) : S8 := if τ.1 2 ≤ 0 then tkF (addF (cuF τ) (if 0 ≤ a then 1 else 0) (if 0 ≤ a then a else (cuF τ).1 8)) else τ
def u2F (τ : S8) : S8 := if τ.1 2 ≤ 0 then u3F (wiF (badU τ) τ) (askF τ) else τ
def unF (σ : S8) (n k : Nat) : S8 := u2F (unL k n σ)
theorem okR_add {σ : S8} {s v : Int32} (h : okR σ) : okR (addF σ s v) := by
  obtain ⟨len, p, z⟩ := h
  refine ⟨len, p, ?_, z.2.1, ?_, z.2.2.2⟩
  · show upd σ.1 17 (σ.1 17 + 1) 5 = _
    rw [upd_n (by decide)]; exact z.1
  · show upd σ.1 17 (σ.1 17 + 1) 4 = _
    rw [upd_n (by decide)]; exact z.2.2.1
theorem unit138 (d : Nat) {τ : S8} {m : Nat} (on a : Int32) (hk : okR τ) (h17 : τ.1 17 = nI m) (hm : m < 320) : Rn8 mX8_unit (d + 4) 138 [.int on, .int a] (fun _ => []) τ none (u3F τ a) := by
  refine g8_unit_138 ?_
  unfold u3F
  by_cases h : τ.1 2 ≤ 0
  · rw [if_pos h]
    refine ⟨fun _ => ⟨_, countUnitT8 (d + 2) τ, _, addT8 (d + 2) (cuF τ) _ _ ?_, _, tokenF8 (d + 1) (okR_add (okR_cu hk)), rfl, rfl⟩, fun q => absurd h q⟩
    rw [cuF_j τ 17 (by decide) (by decide), h17]
    exact vin hm (by decide)
  · rw [if_neg h]
    exact ⟨fun q => absurd q h, fun _ => ⟨rfl, rfl⟩⟩
theorem unit101 (d : Nat) {τ : S8} {m : Nat} (on : Int32) (hk : okR τ) (h17 : τ.1 17 = nI m) (hm : m < 320) : Rn8 mX8_unit (d + 4) 101 [.int on, U_] (fun _ => []) τ none (u2F τ) := by
  refine g8_unit_101 ?_
  unfold u2F
  by_cases h : τ.1 2 ≤ 0
  · rw [if_pos h]
    have w17 : (wrF τ 2).1 17 = nI m := ((kR_wr τ 2).1 17 (by decide)).trans h17
    have h133 : badU τ = true → Rn8 mX8_unit (d + 4) 133 [.int on, .int (askF τ)] (fun _ => []) τ none (u3F (wiF (badU τ) τ) (askF τ)) := fun hb => by
      rw [hb]
      exact g8_unit_133 ⟨_, wrongT8 (d + 2) τ 2, unit138 d on (askF τ) (okR_wr hk) w17 hm⟩
    have h126 : (decide (¬ τ.1 6 = 2) && decide (askF τ < 0)) = false → Rn8 mX8_unit (d + 4) 126 [.int on, .int (askF τ)] (fun _ => []) τ none (u3F (wiF (badU τ) τ) (askF τ)) := fun hb => by
      refine g8_unit_126 ⟨_, _, isFullT8 (d + 2) τ, fun q => ?_, fun q => ?_⟩
      · rw [bi_0] at q
        have : badU τ = false := by unfold badU; rw [hb, q]; rfl
        rw [this]
        exact unit138 d on (askF τ) hk h17 hm
      · rw [bi_0, Bool.not_eq_false] at q
        exact h133 (by unfold badU; rw [hb, q]; rfl)
    refine ⟨fun _ => ⟨_, _, askedT8 (d + 2) τ, fun q => ?_, fun q => ⟨fun z => ?_, fun z => ?_⟩⟩, fun q => absurd h q⟩
    · exact h126 (by rw [decide_eq_false (not_not_intro q), Bool.false_and])
    · exact h133 (by unfold badU; rw [decide_eq_true q, decide_eq_true z]; rfl)
    · exact h126 (by rw [decide_eq_false z, Bool.and_false])
  · rw [if_neg h]
    exact ⟨fun q => absurd q h, fun _ => ⟨rfl, rfl⟩⟩
theorem unitT8 (d : Nat) {σ : S8} {n k dp m : Nat} (hk : okR σ) (h19 : σ.1 19 = nI n) (hn : n + k ≤ 160) (h23 : σ.1 23 = nI dp) (hd : dp + k = 9) (h8 : 8 ≤ dp → ¬ σ.1 2 = 0) (h0 : 0 < k) (h17 : σ.1 17 = nI m) (hm : m < 320) : Tw8 mX8_unit (d + 4) [] σ none (unF σ n k) := by
  have a := unL_ok k n σ hk
  exact Tw8.ofR [U_, U_] (by decide) (fun _ => rfl) (fun _ _ => Nat.le_of_ble_eq_true rfl) (g8_unit_0 (unLR d k n dp σ hk h19 hn h23 hd h8 h0 (fun on _ => unit101 d on a.1 (a.2.trans h17) hm)))
