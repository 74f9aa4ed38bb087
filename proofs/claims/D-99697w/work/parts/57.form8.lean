/-! the twin's reader: what is open -/
set_option maxRecDepth 100000
set_option maxHeartbeats 200000
theorem nI_prd (n : Nat) : nI (n + 1) - 1 = nI n := by
  rw [← nI_1, Int32.add_sub_cancel]
def mnF (o : Nat → Int32) : Nat → Bool
  | 0 => true
  | n + 1 => decide (o n = 20) || decide (¬ 4 ≤ s8_tight (o n))
theorem mayNotT8 (d : Nat) (σ : S8) {n : Nat} (h : σ.1 19 = nI n) (hn : n ≤ 160) : Tw8 mX8_mayNot (d + 2) [] σ (some (.int (bi (mnF (σ.2.1 15) n)))) σ := by
  refine Tw8.ofR [] (by decide) (fun _ => rfl) (fun _ _ => Nat.le_of_ble_eq_true rfl) (g8_mayNot_0 ?_)
  rw [h]
  cases n with
  | zero => exact ⟨fun _ => ⟨rfl, rfl⟩, fun q => absurd rfl q⟩
  | succ n =>
    refine ⟨fun q => absurd q (nI_ne0 (by omega) (by omega)), fun _ => ?_⟩
    rw [nI_prd, cl (by omega)]
    show _ ∧ _
    refine ⟨vin (by omega) (by decide), fun e => ⟨?_, rfl⟩, fun e => ⟨?_, rfl⟩⟩
    · show some (Value.int (bi (decide (σ.2.1 15 n = 20) || decide (¬ 4 ≤ s8_tight (σ.2.1 15 n))))) = _
      rw [decide_eq_true e]; rfl
    · show some (Value.int (bi (decide (σ.2.1 15 n = 20) || decide (¬ 4 ≤ s8_tight (σ.2.1 15 n))))) = _
      rw [decide_eq_false e, Bool.false_or, bi_ifn]
def hbF (o : Nat → Int32) : Nat → Bool := acc8 (fun k b => b || decide (o k = 20)) false
theorem hbF_s (o : Nat → Int32) (k : Nat) : hbF o (k + 1) = (hbF o k || decide (o k = 20)) := rfl
theorem hasBracketT8 (d : Nat) (σ : S8) {n : Nat} (h : σ.1 19 = nI n) (hn : n ≤ 160) : Tw8 mX8_hasBracket (d + 1) [] σ (some (.int (bi (hbF (σ.2.1 15) n)))) σ := by
  obtain ⟨b, τ, ⟨a1, a2⟩, a3⟩ := iter8 (A := Bool) (fun k b τ r σ1 => Rn8 mX8_hasBracket (d + 1) 4 [.int (bi b), .int (nI k)] (fun _ => []) τ r σ1) (fun k b τ => b = hbF (σ.2.1 15) k ∧ τ = σ) n (by
    rintro k b τ hk ⟨p0, rfl⟩
    refine ⟨_, _, ⟨rfl, rfl⟩, fun r σ1 hh => ?_⟩
    rw [hbF_s, ← p0] at hh
    refine g8_hasBracket_4 ⟨fun q => absurd q (by rw [h]; exact nI_ge hk (by omega)), fun _ => ⟨fun q => ?_, fun q => ⟨vin (by omega) (by decide), ?_⟩⟩⟩
    · rw [bi_0, Bool.not_eq_false] at q
      rw [q, Bool.true_or] at hh
      rw [nI_1]; exact hh
    · rw [bi_0] at q
      rw [q, Bool.false_or] at hh
      rw [cl (by omega), bi_if, nI_1]; exact hh) 0 false σ (Nat.zero_le _) ⟨rfl, rfl⟩
  subst a1; subst a2
  exact Tw8.ofR [U_, U_] (by decide) (fun _ => rfl) (fun _ _ => Nat.le_of_ble_eq_true rfl) (g8_hasBracket_0 (a3 _ _ (g8_hasBracket_4 ⟨fun _ => ⟨isB_bi _, rfl, rfl⟩, fun q => absurd (by rw [h]; exact nI_le (Nat.le_refl _) (by omega)) q⟩)))
/-- whether a relation waits -/
def hrF (o : Nat → Int32) : Nat → Bool
  | 0 => false
  | k + 1 => if o k = 20 then false else if s8_tight (o k) ≤ 4 then decide (s8_tight (o k) = 4) else hrF o k
theorem hasRelationR (d : Nat) (σ : S8) : ∀ n, n ≤ 160 → Rn8 mX8_hasRelation (d + 2) 7 [.int (nI n - 1)] (fun _ => []) σ (some (.int (bi (hrF (σ.2.1 15) n)))) σ := by
  intro n
  induction n with
  | zero =>
    intro _
    have z : nI 0 - 1 < 0 := by decide
    exact g8_hasRelation_7 ⟨fun _ => g8_hasRelation_41 ⟨fun _ => ⟨rfl, rfl⟩, fun q => absurd z q⟩, fun q => absurd z q⟩
  | succ n ih =>
    intro hn
    have hr := ih (by omega)
    rw [nI_prd]
    have z : ¬ nI n < 0 := nI_nneg (by omega)
    have cn : (nI n).toNatClampNeg = n := cl (by omega)
    have bn : vp_in (nI n) 160 := vin (by omega) (by decide)
    show Rn8 mX8_hasRelation (d + 2) 7 [.int (nI n)] (fun _ => []) σ (some (.int (bi (if σ.2.1 15 n = 20 then false else if s8_tight (σ.2.1 15 n) ≤ 4 then decide (s8_tight (σ.2.1 15 n) = 4) else hrF (σ.2.1 15) n)))) σ
    refine g8_hasRelation_7 ⟨fun q => absurd q z, fun _ => ⟨bn, ?_⟩⟩
    rw [cn]
    refine ⟨fun e => ?_, fun e => ⟨fun e2 => ?_, fun e2 => ?_⟩⟩
    · rw [if_pos e]
      exact g8_hasRelation_41 ⟨fun q => absurd q z, fun _ => ⟨bn, fun _ => ⟨rfl, rfl⟩, fun q => absurd (by rw [cn]; exact e) q⟩⟩
    · rw [if_neg e, if_pos e2]
      exact g8_hasRelation_41 ⟨fun q => absurd q z, fun _ => ⟨bn, fun q => absurd (by rw [cn] at q; exact q) e, fun _ => ⟨by rw [cn, bi_if], rfl⟩⟩⟩
    · rw [if_neg e, if_neg e2]
      rw [show nI n + (-1) = nI n - 1 from (Int32.sub_eq_add_neg _ _).symm]
      exact hr
theorem hasRelationT8 (d : Nat) (σ : S8) {n : Nat} (h : σ.1 19 = nI n) (hn : n ≤ 160) : Tw8 mX8_hasRelation (d + 2) [] σ (some (.int (bi (hrF (σ.2.1 15) n)))) σ :=
  Tw8.ofR [U_] (by decide) (fun _ => rfl) (fun _ _ => Nat.le_of_ble_eq_true rfl) (g8_hasRelation_0 (by rw [h]; exact hasRelationR d σ n hn))
def ouF0 (σ : S8) (what : Int32) (n : Nat) : S8 := (upd (upd σ.1 19 (nI (n + 1))) 23 ((σ.1 23) + 1), upA σ.2.1 15 (upd (σ.2.1 15) n what), σ.2.2.1, σ.2.2.2)
def ouF (σ : S8) (what : Int32) (n : Nat) : S8 := if σ.1 2 = 0 then tkF (ouF0 σ what n) else ouF0 σ what n
theorem okR_ou0 {σ : S8} {what : Int32} {n : Nat} (h : okR σ) : okR (ouF0 σ what n) := h
theorem okR_ou {σ : S8} {what : Int32} {n : Nat} (h : okR σ) : okR (ouF σ what n) := by
  unfold ouF
  split
  · exact okR_tk (okR_ou0 h)
  · exact okR_ou0 h
theorem openUpT8 (d : Nat) {σ : S8} (what : Int32) {n : Nat} (hk : okR σ) (h : σ.1 19 = nI n) (hn : n < 160) : Tw8 mX8_openUp (d + 3) [.int what] σ none (ouF σ what n) := by
  refine Tw8.ofR [.int what] (by decide) (fun _ => rfl) (fun _ _ => Nat.le_of_ble_eq_true rfl) (g8_openUp_0 ?_)
  rw [h, cl (by omega), nI_1]
  unfold ouF
  refine ⟨vin hn (by decide), fun q => ?_, fun q => ?_⟩
  · rw [if_neg q]; exact ⟨rfl, rfl⟩
  · rw [if_pos q]; exact ⟨_, tokenF8 d (okR_ou0 (what := what) (n := n) hk), rfl, rfl⟩
