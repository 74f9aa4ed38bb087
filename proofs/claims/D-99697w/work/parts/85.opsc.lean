/-! the component: what it answers (1) -/
set_option maxRecDepth 100000
section C1
variable {ρ : Rho} {E : Hp → Prop} {A : Nat → Nat} {σ : Sg}
theorem menC (d : Nat) : Tv ρ E A mX0_men (d + 2) 0 0 [.ref (A 0)] σ (some (.int (nI (ρ.1 0)))) σ :=
  Tv.of [.ref (A 0)] (by decide) rfl (fun _ => Nat.le_of_ble_eq_true rfl) rfl (gc_X0_men_0 ⟨rfl, rfl⟩)
theorem coatsC (d : Nat) : Tv ρ E A mX0_coats (d + 2) 0 0 [.ref (A 0)] σ (some (.int (nI (ρ.1 1)))) σ :=
  Tv.of [.ref (A 0)] (by decide) rfl (fun _ => Nat.le_of_ble_eq_true rfl) rfl (gc_X0_coats_0 ⟨rfl, rfl⟩)
theorem isIn_c (a b c : Int32) : s0_isIn a b c = s8_isIn a b c := rfl
theorem isManC (d : Nat) (v : Int32) (h : ρ.1 0 ≤ 6) : Tv ρ E A mX0_isMan (d + 3) 0 0 [.ref (A 0), .int v] σ (some (.int (bi (idx v (ρ.1 0))))) σ := by
  refine Tv.of [.ref (A 0), .int v] (by decide) rfl (fun _ => Nat.le_of_ble_eq_true rfl) rfl (gc_X0_isMan_0 ⟨_, _, menC d, ?_, rfl⟩)
  rw [isIn_c, isIn_idx (by omega)]
theorem isCoatC (d : Nat) (v : Int32) (h : ρ.1 1 ≤ 6) : Tv ρ E A mX0_isCoat (d + 3) 0 0 [.ref (A 0), .int v] σ (some (.int (bi (idx v (ρ.1 1))))) σ := by
  refine Tv.of [.ref (A 0), .int v] (by decide) rfl (fun _ => Nat.le_of_ble_eq_true rfl) rfl (gc_X0_isCoat_0 ⟨_, _, coatsC d, ?_, rfl⟩)
  rw [isIn_c, isIn_idx (by omega)]
/-- what the state now must be -/
def okNow (ρ : Rho) (v : Nat → Int32) : Prop := rgV v (ρ.1 0) (ρ.1 1) ∧ okW v (ρ.1 0) (ρ.1 1) ∧ nob v (ρ.1 0) ∧ unq v (ρ.1 0)
theorem misfitCM (d : Nat) (m c : Int32) (hT : tlV ρ) (hN : okNow ρ (stV σ 1)) : ∃ σ1, Tv ρ E A mX0_misfit (d + 302) 0 0 [.ref (A 0), .int m, .int c] σ (some (.int (if idx m (ρ.1 0) && idx c (ρ.1 1) then misE (eC ρ) (stV σ 1) m.toNatClampNeg c.toNatClampNeg else -1))) σ1 ∧ kc [30] σ σ1 := by
  have h6 := hT.1
  have h6c := hT.2.1
  have q1 := isManC (d + 298) (E := E) (A := A) (σ := σ) m h6
  have q2 := isCoatC (d + 298) (E := E) (A := A) (σ := σ) c h6c
  cases h1 : idx m (ρ.1 0) with
  | false =>
    rw [h1] at q1
    refine ⟨σ, Tv.of [.ref (A 0), .int m, .int c] (by decide) rfl (fun _ => Nat.le_of_ble_eq_true rfl) rfl (gc_X0_misfit_0 ⟨_, _, q1, fun _ => ⟨rfl, rfl⟩, fun q => absurd rfl q⟩), kc.rf⟩
  | true =>
    rw [h1] at q1
    cases h2 : idx c (ρ.1 1) with
    | false =>
      rw [h2] at q2
      exact ⟨σ, Tv.of [.ref (A 0), .int m, .int c] (by decide) rfl (fun _ => Nat.le_of_ble_eq_true rfl) rfl (gc_X0_misfit_0 ⟨_, _, q1, fun q => absurd q (by decide), fun _ => ⟨_, _, q2, fun _ => ⟨rfl, rfl⟩, fun q => absurd rfl q⟩⟩), kc.rf⟩
    | true =>
      rw [h2] at q2
      obtain ⟨j, hj, rfl⟩ := idx_of h1 (by omega)
      obtain ⟨i, hi, rfl⟩ := idx_of h2 (by omega)
      obtain ⟨r1, r2, r3, r4⟩ := hN.1.2 i hi
      obtain ⟨σ1, q3, q4⟩ := misCn d (E := E) (A := A) (σ := σ) hT hj (show i < 6 by omega) (hN.1.1 j hj) r1 r2 r4
      rw [cl (by omega), cl (by omega)]
      exact ⟨σ1, Tv.of [.ref (A 0), .int (nI j), .int (nI i)] (by decide) rfl (fun _ => Nat.le_of_ble_eq_true rfl) q3.1 (gc_X0_misfit_0 ⟨_, _, q1, fun q => absurd q (by decide), fun _ => ⟨_, _, q2, fun q => absurd q (by decide), fun _ => ⟨_, _, q3, rfl, rfl⟩⟩⟩), q4⟩
theorem fittingC (d : Nat) {m : Nat} (hT : tlV ρ) (hm : m < ρ.1 0) (hN : okNow ρ (stV σ 1)) : ∃ σ1, Tv ρ E A mX0_fitting (d + 303) 0 0 [.ref (A 0), .int (nI m)] σ (some (.int (set8 (fitE (eC ρ) (stV σ 1) m) (ρ.1 1)))) σ1 ∧ kc [30] σ σ1 := by
  have h6 := hT.2.1
  obtain ⟨a, τ, ⟨h1, h2⟩, h3⟩ := iterC (T := Int32) (fun k a τ r σ1 => Rv ρ E A mX0_fitting (d + 303) 0 0 4 [.ref (A 0), .int (nI m), .int a, .int (nI k)] [] τ r σ1) (fun k a τ => a = set8 (fitE (eC ρ) (stV σ 1) m) k ∧ kc [30] σ τ) (ρ.1 1) (by
    rintro k a τ hk ⟨rfl, q1⟩
    have ev : stV τ 1 = stV σ 1 := stV_kc q1 (by decide)
    obtain ⟨τ1, q2, q3⟩ := fitCn d (E := E) (A := A) (σ := τ) (m := m) (c := k) hT hm hk (by rw [ev]; exact hN.1)
    rw [ev] at q2
    refine ⟨_, τ1, ⟨rfl, q1.tr q3⟩, fun r σ1 h => ?_⟩
    refine gc_X0_fitting_4 ⟨_, _, coatsC (d + 300), fun q => absurd q (nI_ge hk (by omega)), fun _ => ⟨_, _, q2, fun hb => ?_, fun hb => ?_⟩⟩
    · have : fitE (eC ρ) (stV σ 1) m k = false := (bi_0 _).mp hb
      rw [nI_1]
      rw [← set8_s, this, or_f] at h
      exact h
    · have : fitE (eC ρ) (stV σ 1) m k = true := by
        cases hq : fitE (eC ρ) (stV σ 1) m k with
        | false => rw [hq] at hb; exact absurd rfl hb
        | true => rfl
      rw [nI_1]
      rw [← set8_s, this] at h
      exact h) 0 0 σ (Nat.zero_le _) ⟨rfl, kc.rf⟩
  subst h1
  exact ⟨τ, Tv.of [.ref (A 0), .int (nI m), U_, U_] (by decide) rfl (fun _ => Nat.le_of_ble_eq_true rfl) h2.1 (gc_X0_fitting_0 (h3 _ _ (gc_X0_fitting_4 ⟨_, _, coatsC (d + 300), fun _ => ⟨rfl, rfl⟩, fun q => absurd (nI_le (Nat.le_refl _) (by omega)) q⟩))), h2⟩
end C1
