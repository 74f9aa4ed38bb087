/-! the twin's reader: nots and brackets ahead of a unit -/
set_option maxRecDepth 100000
set_option maxHeartbeats 200000
/-- a fault if b -/
def wiF (b : Bool) (σ : S8) : S8 := if b then wrF σ 2 else σ
theorem okR_wi {b : Bool} {σ : S8} (h : okR σ) : okR (wiF b σ) := by
  unfold wiF
  split
  · exact okR_wr h
  · exact h
theorem kR_wi (b : Bool) (σ : S8) : kR σ (wiF b σ) := by
  unfold wiF
  split
  · exact kR_wr σ 2
  · exact kR.rf
def deepB (σ : S8) : Bool := decide (¬ σ.1 23 ≤ 6)
/-- what is read ahead of a unit, in at most so many rounds -/
def unL : Nat → Nat → S8 → S8
  | 0, _, σ => σ
  | k + 1, n, σ => if σ.1 2 = 0 then
      (if (isWF σ 7237492 && mnF (σ.2.1 15) n) = true then unL k (n + 1) (ouF (wiF (deepB σ) σ) 21 n)
       else if σ.1 6 = 40 then unL k (n + 1) (ouF (cuF (wiF (fullF σ || deepB σ) σ)) 20 n) else σ) else σ
theorem ou_f (σ : S8) (what : Int32) (n dp : Nat) (h : σ.1 23 = nI dp) : (ouF σ what n).1 19 = nI (n + 1) ∧ (ouF σ what n).1 23 = nI (dp + 1) ∧ (¬ σ.1 2 = 0 → ¬ (ouF σ what n).1 2 = 0) := by
  have a1 : (ouF0 σ what n).1 19 = nI (n + 1) := by
    show upd (upd σ.1 19 (nI (n + 1))) 23 (σ.1 23 + 1) 19 = _
    rw [upd_n (by decide), upd_s]
  have a2 : (ouF0 σ what n).1 23 = nI (dp + 1) := by
    show upd (upd σ.1 19 (nI (n + 1))) 23 (σ.1 23 + 1) 23 = _
    rw [upd_s, h, nI_1]
  have a3 : (ouF0 σ what n).1 2 = σ.1 2 := by
    show upd (upd σ.1 19 (nI (n + 1))) 23 (σ.1 23 + 1) 2 = _
    rw [upd_n (by decide), upd_n (by decide)]
  unfold ouF
  by_cases e : σ.1 2 = 0
  · rw [if_pos e]
    exact ⟨((kR_tk _).1 19 (by decide)).trans a1, ((kR_tk _).1 23 (by decide)).trans a2, fun q => absurd e q⟩
  · rw [if_neg e]
    exact ⟨a1, a2, fun q => by rw [a3]; exact q⟩
theorem wr2_f (σ : S8) (h : σ.1 2 = 0) : ¬ (wrF σ 2).1 2 = 0 := by
  unfold wrF
  rw [if_pos (by rw [h]; decide)]
  show ¬ upd (upd σ.1 2 (if σ.1 6 = 3 then 1 else 2)) 3 (σ.1 7) 2 = 0
  rw [upd_n (by decide), upd_s]
  split <;> decide
theorem unLR (d : Nat) : ∀ (k n dp : Nat) (σ : S8), okR σ → σ.1 19 = nI n → n + k ≤ 160 → σ.1 23 = nI dp → dp + k = 9 → (8 ≤ dp → ¬ σ.1 2 = 0) → 0 < k → ∀ {r σ1}, (∀ on, (on = 0 ∨ on = 1) → Rn8 mX8_unit (d + 4) 101 [.int on, U_] (fun _ => []) (unL k n σ) r σ1) → Rn8 mX8_unit (d + 4) 2 [.int 1, U_] (fun _ => []) σ r σ1 := by
  intro k
  induction k with
  | zero => intro n dp σ _ _ _ _ _ _ h0; exact absurd h0 (by omega)
  | succ k ih =>
    intro n dp σ hk h19 hn h23 hd h8 _ r σ1 h
    unfold unL at h
    by_cases e : σ.1 2 = 0
    · rw [if_pos e] at h
      have hdp : dp ≤ 7 := by
        by_cases z : dp ≤ 7
        · exact z
        · exact absurd e (h8 (by omega))
      have wi : ∀ b : Bool, (deepB σ = true → b = true) → okR (wiF b σ) ∧ (wiF b σ).1 19 = nI n ∧ (wiF b σ).1 23 = nI dp ∧ (8 ≤ dp + 1 → ¬ (wiF b σ).1 2 = 0) := by
        intro b hb
        refine ⟨okR_wi hk, ((kR_wi b σ).1 19 (by decide)).trans h19, ((kR_wi b σ).1 23 (by decide)).trans h23, fun z => ?_⟩
        have e7 : dp = 7 := by omega
        have : deepB σ = true := by
          unfold deepB
          rw [h23, e7]
          decide
        rw [hb this]
        exact wr2_f σ e
      have up : ∀ (τ : S8) (what : Int32), okR τ → τ.1 19 = nI n → τ.1 23 = nI dp → (8 ≤ dp + 1 → ¬ τ.1 2 = 0) → (∀ on, (on = 0 ∨ on = 1) → Rn8 mX8_unit (d + 4) 101 [.int on, U_] (fun _ => []) (unL k (n + 1) (ouF τ what n)) r σ1) → ∃ σ2, Tw8 mX8_openUp (d + 3) [.int what] τ none σ2 ∧ Rn8 mX8_unit (d + 4) 2 [.int 1, U_] (fun _ => []) σ2 r σ1 := by
        intro τ what t1 t2 t3 t4 t5
        have o := ou_f τ what n dp t3
        exact ⟨_, openUpT8 d what t1 t2 (by omega), ih (n + 1) (dp + 1) (ouF τ what n) (okR_ou t1) o.1 (by omega) o.2.1 (by omega) (fun z => o.2.2 (t4 z)) (by omega) t5⟩
      have cN : (isWF σ 7237492 && mnF (σ.2.1 15) n) = false → Rn8 mX8_unit (d + 4) 53 [.int 1, U_] (fun _ => []) σ r σ1 := by
        intro hb
        rw [hb, if_neg (by decide)] at h
        have cu : ∀ b : Bool, (deepB σ = true → b = true) → (fullF σ || deepB σ) = b → σ.1 6 = 40 → ∃ σ2, Tw8 mX8_countUnit (d + 3) [] (wiF b σ) none σ2 ∧ ∃ σ3, Tw8 mX8_openUp (d + 3) [.int 20] σ2 none σ3 ∧ Rn8 mX8_unit (d + 4) 2 [.int 1, U_] (fun _ => []) σ3 r σ1 := by
          intro b h1 h2 h40
          rw [if_pos h40, h2] at h
          obtain ⟨w1, w2, w3, w4⟩ := wi b h1
          have g : ∀ j, j ≠ 20 → j ≠ 22 → (cuF (wiF b σ)).1 j = (wiF b σ).1 j := fun j j1 j2 => by
            show upd (upd (wiF b σ).1 20 ((wiF b σ).1 20 + 1)) 22 ((wiF b σ).1 22 + 1) j = _
            rw [upd_n j2, upd_n j1]
          have okc : okR (cuF (wiF b σ)) := by
            obtain ⟨len, p, z⟩ := w1
            exact ⟨len, p, by rw [g 5 (by decide) (by decide)]; exact z.1, z.2.1, by rw [g 4 (by decide) (by decide)]; exact z.2.2.1, z.2.2.2⟩
          exact ⟨_, countUnitT8 (d + 2) _, up (cuF (wiF b σ)) 20 okc (by rw [g 19 (by decide) (by decide)]; exact w2) (by rw [g 23 (by decide) (by decide)]; exact w3) (fun z => by rw [g 2 (by decide) (by decide)]; exact w4 z) h⟩
        refine g8_unit_53 ⟨fun q => ?_, fun q => ⟨_, _, isFullT8 (d + 2) σ, fun f => ?_, fun f => ⟨fun dl => ?_, fun dl => ?_⟩⟩⟩
        · rw [if_neg q] at h
          exact g8_unit_2 ⟨fun _ => h 0 (Or.inl rfl), fun z => absurd rfl z⟩
        · rw [bi_0, Bool.not_eq_false] at f
          exact ⟨_, wrongT8 (d + 2) σ 2, cu true (fun _ => rfl) (by rw [f]; rfl) q⟩
        · rw [bi_0] at f
          have f2 : deepB σ = false := decide_eq_false (not_not_intro dl)
          exact cu false (fun z => by rw [f2] at z; exact z) (by rw [f, f2]; rfl) q
        · have f2 : deepB σ = true := decide_eq_true dl
          exact ⟨_, wrongT8 (d + 2) σ 2, cu true (fun _ => rfl) (by rw [f2, Bool.or_true]) q⟩
      refine g8_unit_2 ⟨fun q => absurd q (by decide), fun _ => ⟨fun q => absurd e q, fun _ => ⟨_, _, isWordT8 (d + 2) σ 7237492, fun q => ?_, fun q => ⟨_, _, mayNotT8 (d + 1) σ h19 (by omega), fun q2 => ?_, fun q2 => ?_⟩⟩⟩⟩
      · rw [bi_0] at q
        exact cN (by rw [q]; rfl)
      · rw [bi_0] at q2
        exact cN (by rw [q2, Bool.and_false])
      · rw [bi_0, Bool.not_eq_false] at q q2
        rw [q, q2, if_pos (by decide)] at h
        obtain ⟨w1, w2, w3, w4⟩ := wi (deepB σ) (fun z => z)
        have u := up (wiF (deepB σ) σ) 21 w1 w2 w3 w4 h
        refine ⟨fun dl => ?_, fun dl => ?_⟩
        · have f2 : deepB σ = false := decide_eq_false (not_not_intro dl)
          rw [f2] at u
          exact u
        · have f2 : deepB σ = true := decide_eq_true dl
          rw [f2] at u
          exact ⟨_, wrongT8 (d + 2) σ 2, u⟩
    · rw [if_neg e] at h
      exact g8_unit_2 ⟨fun q => absurd q (by decide), fun _ => ⟨fun _ => h 1 (Or.inr rfl), fun q => absurd q e⟩⟩
