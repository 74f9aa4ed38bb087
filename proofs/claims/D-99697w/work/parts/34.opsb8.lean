/-! the twin's public members: asking, 2 -/
set_option maxRecDepth 100000
theorem fillR {σ : S8} {nm nc : Nat} (hR : R8 σ nm nc) : R8 (stA σ 60 (σ.2.1 59)) nm nc := hR.kp (stA_kp (A := [60]) (by decide)) (by decide) (by decide)
theorem fillE {σ : S8} : env8 (stA σ 60 (σ.2.1 59)) = env8 σ := env8_kp (stA_kp (A := [60]) (by decide)) (by decide) (by decide) (by decide)
theorem fittedM (d : Nat) (σ : S8) {nm nc : Nat} (hR : R8 σ nm nc) (hW : okW (σ.2.1 59) nm nc) : M8 mX8_fitted (d + 7) [] σ (set8 (ownE (env8 σ) (σ.2.1 59)) nm) σ := by
  obtain ⟨σ1, q1, q2⟩ := fittedOnesT8 d (stA σ 60 (σ.2.1 59)) (fillR hR) (by rw [stA_s]; exact hW)
  rw [stA_s, fillE] at q1
  exact ⟨σ1, Tw8.ofR [] (by decide) (fun _ => rfl) (fun _ _ => Nat.le_of_ble_eq_true rfl) (g8_fitted_0 ⟨_, fillX (d + 5) σ, _, _, q1, rfl, rfl⟩), fillPK.tr (PK.of q2 (by decide))⟩
theorem popularM (d : Nat) (σ : S8) (c : Int32) {nm nc : Nat} (hR : R8 σ nm nc) : M8 mX8_popular (d + 6) [.int c] σ (if idx c nc then cnt8 (fun m => fitE (env8 σ) (σ.2.1 59) m c.toNatClampNeg) nm else -1) σ := by
  have hc6 := hR.2.2.2.1
  have go : ∀ {r σ1}, _ → Tw8 mX8_popular (d + 6) [.int c] σ r σ1 := fun h => Tw8.ofR [.int c] (by decide) (fun _ => rfl) (fun _ _ => Nat.le_of_ble_eq_true rfl) (g8_popular_0 ⟨_, fillX (d + 4) σ, _, _, isCoatT8 (d + 3) _ c (fillR hR), h⟩)
  cases h1 : idx c nc
  · exact ⟨_, go ⟨fun _ => ⟨rfl, rfl⟩, fun q => absurd (bi_f h1) q⟩, fillPK⟩
  · obtain ⟨c', hc, ec⟩ := idx_of h1 (by omega)
    obtain ⟨σ1, q1, q2⟩ := menForT8 d (stA σ 60 (σ.2.1 59)) (fillR hR) (show c' < 6 by omega)
    rw [stA_s, fillE] at q1
    refine ⟨σ1, go ⟨fun q => absurd q (bi_t h1), fun _ => ⟨_, _, by rw [ec]; exact q1, ?_, rfl⟩⟩, fillPK.tr (PK.of q2 (by decide))⟩
    rw [if_pos rfl, ec, cl (by omega)]
theorem ragsM (d : Nat) (σ : S8) {nm nc : Nat} (hR : R8 σ nm nc) : M8 mX8_rags (d + 6) [] σ (set8 (fun c => decide (cnt8 (fun m => fitE (env8 σ) (σ.2.1 59) m c) nm = 0)) nc) σ := by
  have h6 := hR.2.2.2.1
  obtain ⟨a, τ, ⟨h1, h2⟩, h3⟩ := iter8 (A := Int32) (fun k a τ r σ1 => Rn8 mX8_rags (d + 6) 8 [.int a, .int (nI k)] (fun _ => []) τ r σ1) (fun k a τ => a = set8 (fun c => decide (cnt8 (fun m => fitE (env8 σ) (σ.2.1 59) m c) nm = 0)) k ∧ kp [16, 26] (stA σ 60 (σ.2.1 59)) τ) nc (by
    rintro k a τ hk ⟨rfl, q1⟩
    obtain ⟨τ1, q2, q3⟩ := menForT8 d τ ((fillR hR).kp q1 (by decide) (by decide)) (show k < 6 by omega)
    rw [env8_kp q1 (by decide) (by decide) (by decide), q1.2.2 60 (by decide), stA_s, fillE] at q2
    refine ⟨_, τ1, ⟨rfl, q1.tr q3⟩, fun r σ1 h => ?_⟩
    refine g8_rags_8 ⟨fun q => absurd q (by rw [q1.1, (fillR hR).2.2.1]; exact nI_ge hk (by omega)), fun _ => ⟨_, _, q2, ?_⟩⟩
    rw [tr8, bi_if, nI_1]
    exact h) 0 0 (stA σ 60 (σ.2.1 59)) (Nat.zero_le _) ⟨rfl, kp.rf⟩
  subst h1
  exact ⟨τ, Tw8.ofR [U_, U_] (by decide) (fun _ => rfl) (fun _ _ => Nat.le_of_ble_eq_true rfl) (g8_rags_0 ⟨_, fillX (d + 4) σ, h3 _ _ (g8_rags_8 ⟨fun _ => ⟨rfl, rfl⟩, fun q => absurd (by rw [h2.1, (fillR hR).2.2.1]; exact nI_le (Nat.le_refl _) (by omega)) q⟩)⟩), fillPK.tr (PK.of h2 (by decide))⟩
theorem nakedM (d : Nat) (σ : S8) {nm nc : Nat} (hR : R8 σ nm nc) : M8 mX8_naked (d + 6) [] σ (set8 (fun m => decide (set8 (fitE (env8 σ) (σ.2.1 59) m) nc = 0)) nm) σ := by
  have h6 := hR.2.1
  obtain ⟨a, τ, ⟨h1, h2⟩, h3⟩ := iter8 (A := Int32) (fun k a τ r σ1 => Rn8 mX8_naked (d + 6) 8 [.int a, .int (nI k)] (fun _ => []) τ r σ1) (fun k a τ => a = set8 (fun m => decide (set8 (fitE (env8 σ) (σ.2.1 59) m) nc = 0)) k ∧ kp [16, 26] (stA σ 60 (σ.2.1 59)) τ) nm (by
    rintro k a τ hk ⟨rfl, q1⟩
    obtain ⟨τ1, q2, q3⟩ := coatsForT8 d τ ((fillR hR).kp q1 (by decide) (by decide)) (show k < 6 by omega)
    rw [env8_kp q1 (by decide) (by decide) (by decide), q1.2.2 60 (by decide), stA_s, fillE] at q2
    refine ⟨_, τ1, ⟨rfl, q1.tr q3⟩, fun r σ1 h => ?_⟩
    refine g8_naked_8 ⟨fun q => absurd q (by rw [q1.1, (fillR hR).1]; exact nI_ge hk (by omega)), fun _ => ⟨_, _, q2, ?_⟩⟩
    rw [tr8, bi_if, nI_1]
    exact h) 0 0 (stA σ 60 (σ.2.1 59)) (Nat.zero_le _) ⟨rfl, kp.rf⟩
  subst h1
  exact ⟨τ, Tw8.ofR [U_, U_] (by decide) (fun _ => rfl) (fun _ _ => Nat.le_of_ble_eq_true rfl) (g8_naked_0 ⟨_, fillX (d + 4) σ, h3 _ _ (g8_naked_8 ⟨fun _ => ⟨rfl, rfl⟩, fun q => absurd (by rw [h2.1, (fillR hR).1]; exact nI_le (Nat.le_refl _) (by omega)) q⟩)⟩), fillPK.tr (PK.of h2 (by decide))⟩
theorem lawM (d : Nat) (σ : S8) (n : Int32) {nm nc : Nat} (hR : R8 σ nm nc) (hW : okW (σ.2.1 59) nm nc) : M8 mX8_law (d + 5) [.int n] σ (if s8_isIn n 0 999 = 0 then -1 else cnt8 (fun m => decide (0 ≤ ownI (env8 σ) (σ.2.1 59) m ∧ ownI (env8 σ) (σ.2.1 59) m ≤ n)) nm) σ := by
  have h6 := hR.2.1
  by_cases hn : s8_isIn n 0 999 = 0
  · rw [if_pos hn]
    exact ⟨σ, Tw8.ofR [.int n, U_, U_] (by decide) (fun _ => rfl) (fun _ _ => Nat.le_of_ble_eq_true rfl) (g8_law_0 ⟨fun q => absurd hn q, fun _ => ⟨rfl, rfl⟩⟩), PK.rf⟩
  rw [if_neg hn]
  obtain ⟨a, τ, ⟨h1, h2⟩, h3⟩ := iter8 (A := Int32) (fun k a τ r σ1 => Rn8 mX8_law (d + 5) 21 [.int n, .int a, .int (nI k)] (fun _ => []) τ r σ1) (fun k a τ => a = cnt8 (fun m => decide (0 ≤ ownI (env8 σ) (σ.2.1 59) m ∧ ownI (env8 σ) (σ.2.1 59) m ≤ n)) k ∧ kp [16, 26] (stA σ 60 (σ.2.1 59)) τ) nm (by
    rintro k a τ hk ⟨rfl, q1⟩
    have hR1 := (fillR hR).kp q1 (by decide) (by decide)
    have e60 : τ.2.1 60 = σ.2.1 59 := by rw [q1.2.2 60 (by decide), stA_s]
    obtain ⟨τ1, q2, q3⟩ := ownIllT8 d τ hR1 hk (by rw [e60]; exact hW)
    rw [env8_kp q1 (by decide) (by decide) (by decide), e60, fillE] at q2
    by_cases hneg : ownI (env8 σ) (σ.2.1 59) k < 0
    · refine ⟨_, τ1, ⟨rfl, q1.tr q3⟩, fun r σ1 h => ?_⟩
      refine g8_law_21 ⟨fun q => absurd q (by rw [q1.1, (fillR hR).1]; exact nI_ge hk (by omega)), fun _ => ⟨_, _, q2, fun _ => ?_, fun q => absurd hneg q⟩⟩
      have e : s8_truth 0 = bi (decide (0 ≤ ownI (env8 σ) (σ.2.1 59) k ∧ ownI (env8 σ) (σ.2.1 59) k ≤ n)) := by
        rw [decide_eq_false (fun z => i32_nlt.mpr z.1 hneg)]
        rfl
      rw [e, nI_1]
      exact h
    · have hR2 := hR1.kp q3 (by decide) (by decide)
      obtain ⟨τ2, q4, q5⟩ := ownIllT8 d τ1 hR2 hk (by rw [q3.2.2 60 (by decide), e60]; exact hW)
      rw [env8_kp q3 (by decide) (by decide) (by decide), q3.2.2 60 (by decide), env8_kp q1 (by decide) (by decide) (by decide), e60, fillE] at q4
      refine ⟨_, τ2, ⟨rfl, (q1.tr q3).tr q5⟩, fun r σ1 h => ?_⟩
      refine g8_law_21 ⟨fun q => absurd q (by rw [q1.1, (fillR hR).1]; exact nI_ge hk (by omega)), fun _ => ⟨_, _, q2, fun q => absurd q hneg, fun _ => ⟨_, _, q4, ?_⟩⟩⟩
      have e : s8_truth (if n < ownI (env8 σ) (σ.2.1 59) k then 0 else 1) = bi (decide (0 ≤ ownI (env8 σ) (σ.2.1 59) k ∧ ownI (env8 σ) (σ.2.1 59) k ≤ n)) := by
        rw [bi_ifn, tr_bi]
        congr 1
        simp only [i32_nlt]
        rw [decide_eq_decide]
        exact ⟨fun z => ⟨i32_nlt.mp hneg, z⟩, fun z => z.2⟩
      rw [e, nI_1]
      exact h) 0 0 (stA σ 60 (σ.2.1 59)) (Nat.zero_le _) ⟨rfl, kp.rf⟩
  subst h1
  exact ⟨τ, Tw8.ofR [.int n, U_, U_] (by decide) (fun _ => rfl) (fun _ _ => Nat.le_of_ble_eq_true rfl) (g8_law_0 ⟨fun _ => ⟨_, fillX (d + 3) σ, h3 _ _ (g8_law_21 ⟨fun _ => ⟨rfl, rfl⟩, fun q => absurd (by rw [h2.1, (fillR hR).1]; exact nI_le (Nat.le_refl _) (by omega)) q⟩)⟩, fun q => absurd q hn⟩), fillPK.tr (PK.of h2 (by decide))⟩
def easeE (e : E8) (v : Nat → Int32) (nm : Nat) : Int32 := acc8 (fun m a => s8_greater a (ownI e v m)) 0 nm
theorem easeM (d : Nat) (σ : S8) {nm nc : Nat} (hR : R8 σ nm nc) (hW : okW (σ.2.1 59) nm nc) : M8 mX8_ease (d + 5) [] σ (easeE (env8 σ) (σ.2.1 59) nm) σ := by
  have h6 := hR.2.1
  obtain ⟨a, τ, ⟨h1, h2⟩, h3⟩ := iter8 (A := Int32) (fun k a τ r σ1 => Rn8 mX8_ease (d + 5) 8 [.int a, .int (nI k)] (fun _ => []) τ r σ1) (fun k a τ => a = easeE (env8 σ) (σ.2.1 59) k ∧ kp [16, 26] (stA σ 60 (σ.2.1 59)) τ) nm (by
    rintro k a τ hk ⟨rfl, q1⟩
    have e60 : τ.2.1 60 = σ.2.1 59 := by rw [q1.2.2 60 (by decide), stA_s]
    obtain ⟨τ1, q2, q3⟩ := ownIllT8 d τ ((fillR hR).kp q1 (by decide) (by decide)) hk (by rw [e60]; exact hW)
    rw [env8_kp q1 (by decide) (by decide) (by decide), e60, fillE] at q2
    refine ⟨_, τ1, ⟨rfl, q1.tr q3⟩, fun r σ1 h => ?_⟩
    refine g8_ease_8 ⟨fun q => absurd q (by rw [q1.1, (fillR hR).1]; exact nI_ge hk (by omega)), fun _ => ⟨_, _, q2, ?_⟩⟩
    rw [nI_1]
    exact h) 0 0 (stA σ 60 (σ.2.1 59)) (Nat.zero_le _) ⟨rfl, kp.rf⟩
  subst h1
  exact ⟨τ, Tw8.ofR [U_, U_] (by decide) (fun _ => rfl) (fun _ _ => Nat.le_of_ble_eq_true rfl) (g8_ease_0 ⟨_, fillX (d + 3) σ, h3 _ _ (g8_ease_8 ⟨fun _ => ⟨rfl, rfl⟩, fun q => absurd (by rw [h2.1, (fillR hR).1]; exact nI_le (Nat.le_refl _) (by omega)) q⟩)⟩), fillPK.tr (PK.of h2 (by decide))⟩
/-- has the set this one -/
def hasB (set : Int32) (k : Nat) : Bool := decide (((set >>> (nI k &&& 31)) &&& 1) = 1)
/-- how broad the coats of some are -/
def wideE (v : Nat → Int32) (set : Int32) (nm : Nat) : Int32 := acc8 (fun m a => a + (if hasB set m then v (18 + (v (6 + m)).toNatClampNeg) else 0)) 0 nm
theorem wideOfT8 (d : Nat) (σ : S8) (set : Int32) {nm nc : Nat} (hm : σ.1 48 = nI nm) (h6 : nm ≤ 6) (hc6 : nc ≤ 6) (hW : ∀ m, m < nm → hasB set m = true → ∃ c, c < nc ∧ σ.2.1 60 (6 + m) = nI c) : Tw8 mX8_wideOf (d + 1) [.int set] σ (some (.int (wideE (σ.2.1 60) set nm))) σ := by
  obtain ⟨a, τ, ⟨h1, h2⟩, h3⟩ := iter8 (A := Int32) (fun k a τ r σ1 => Rn8 mX8_wideOf (d + 1) 4 [.int set, .int a, .int (nI k)] (fun _ => []) τ r σ1) (fun k a τ => a = wideE (σ.2.1 60) set k ∧ τ = σ) nm (by
    rintro k a τ hk ⟨rfl, rfl⟩
    refine ⟨_, _, ⟨rfl, rfl⟩, fun r σ1 h => ?_⟩
    have h' : Rn8 mX8_wideOf (d + 1) 4 [.int set, .int (wideE (τ.2.1 60) set k + (if hasB set k then τ.2.1 60 (18 + (τ.2.1 60 (6 + k)).toNatClampNeg) else 0)), .int (nI (k + 1))] (fun _ => []) τ r σ1 := h
    refine g8_wideOf_4 ⟨fun q => absurd q (by rw [hm]; exact nI_ge hk (by omega)), fun _ => ⟨fun q => ?_, fun q => ?_⟩⟩
    · have hb : ¬ hasB set k = true := fun z => q (of_decide_eq_true z)
      rw [if_neg hb] at h'
      rw [nI_1]
      exact h'
    · have hb : hasB set k = true := decide_eq_true q
      rw [if_pos hb] at h'
      obtain ⟨c, hc, ec⟩ := hW k hk hb
      rw [ec, cl (by omega)] at h'
      rw [n6, cl (by omega), ec, n18, cl (by omega), nI_1]
      exact ⟨vin (by omega) (by decide), vin (by omega) (by decide), h'⟩) 0 0 σ (Nat.zero_le _) ⟨rfl, rfl⟩
  subst h1; subst h2
  exact Tw8.ofR [.int set, U_, U_] (by decide) (fun _ => rfl) (fun _ _ => Nat.le_of_ble_eq_true rfl) (g8_wideOf_0 (h3 _ _ (g8_wideOf_4 ⟨fun _ => ⟨rfl, rfl⟩, fun q => absurd (by rw [hm]; exact nI_le (Nat.le_refl _) (by omega)) q⟩)))
