/-! the component: what is sure -/
set_option maxRecDepth 100000
theorem cnt_0 {f : Nat → Bool} : ∀ n, (∀ i, i < n → f i = false) → cnt8 f n = 0 := by
  intro n
  induction n with
  | zero => intro _; rfl
  | succ n ih => intro h; rw [← cnt_f (h n (by omega))]; exact ih (fun i hi => h i (by omega))
theorem sure_lo {f : Nat → Bool} {w : Int32} : ∀ n, (∀ i, i < n → f i = false) → sureE f w n = -1 := by
  intro n
  induction n with
  | zero => intro _; rfl
  | succ n ih => intro h; rw [sureE_s, h n (by omega), Bool.false_and, if_neg (by decide)]; exact ih (fun i hi => h i (by omega))
theorem sure_0 {f : Nat → Bool} {j : Nat} (hj : j < 1000) (h1 : ∀ i, i < j → f i = false) (h2 : f j = true) : ∀ m, sureE f 0 (j + 1 + m) = nI j := by
  intro m
  induction m with
  | zero =>
    rw [Nat.add_zero, sureE_s, sure_lo j h1, h2]
    rfl
  | succ m ih =>
    rw [← Nat.add_assoc, sureE_s, ih, decide_eq_false (nI_nneg (by omega)), decide_eq_false (show ¬ (0 : Int32) = 1 by decide)]
    rw [show (f (j + 1 + m) && (false || false)) = false by cases f (j + 1 + m) <;> rfl, if_neg (by decide)]
theorem sure_1 {f : Nat → Bool} {j : Nat} (h2 : f j = true) : ∀ m, (∀ i, j < i → i < j + 1 + m → f i = false) → sureE f 1 (j + 1 + m) = nI j := by
  intro m
  induction m with
  | zero =>
    intro _
    rw [Nat.add_zero, sureE_s, h2, decide_eq_true (show (1 : Int32) = 1 from rfl), Bool.or_true, Bool.true_and, if_pos rfl]
  | succ m ih =>
    intro h
    rw [← Nat.add_assoc, sureE_s, h (j + 1 + m) (by omega) (by omega), Bool.false_and, if_neg (by decide)]
    exact ih (fun i h3 h4 => h i h3 (by omega))
section Su
variable {ρ : Rho} {fr : Nat → Option va_E} {A : Nat → Nat} {D : Dn} {σ : Sg}
theorem sureC (d : Nat) (what k : Int32) (hT : tlV ρ) (hO : okB ρ) (hs : sgOK D σ) (hS : okSg D) : ∃ σ1, Tv ρ (ED ρ fr A D) A mX0_sure (d + 305) 62 248 [.ref (A 0), .int what, .int k] σ (some (.int (if s8_isIn what 0 1 = 0 then -1 else if growCE ρ D k = 0 then -1 else sureE (okC ρ D k) what 31))) σ1 ∧ kc lpl σ σ1 := by
  have go : ∀ {r σ1}, σ1.2 = σ.2 → _ → Tv ρ (ED ρ fr A D) A mX0_sure (d + 305) 62 248 [.ref (A 0), .int what, .int k] σ r σ1 := fun h2 h => Tv.of [.ref (A 0), .int what, .int k, U_] (by decide) rfl (fun _ => Nat.le_of_ble_eq_true rfl) h2 (gc_X0_sure_0 h)
  by_cases h1 : s8_isIn what 0 1 = 0
  · rw [if_pos h1]
    exact ⟨σ, go rfl ⟨fun _ => ⟨rfl, rfl⟩, fun q => absurd h1 q⟩, kc.rf⟩
  rw [if_neg h1]
  obtain ⟨τ, g1, g2, g3⟩ := growC d (fr := fr) (A := A) (σ := σ) k hT hO hs hS
  by_cases h2 : growCE ρ D k = 0
  · rw [if_pos h2]
    exact ⟨τ, go g2.1 ⟨fun q => absurd q h1, fun _ => ⟨31, 124, _, τ, g1, ⟨by decide, by decide⟩, fun q => absurd h2 q, fun _ => ⟨rfl, rfl⟩⟩⟩, g2⟩
  rw [if_neg h2]
  have hn : 0 < ρ.1 0 ∧ 0 < ρ.1 1 := by
    unfold growCE at h2
    by_cases z : ρ.1 0 = 0 ∨ ρ.1 1 = 0
    · rw [if_pos z] at h2; exact absurd rfl h2
    · omega
  have hc : cnt8 (okC ρ D k) 31 ≠ 0 := by
    unfold growCE at h2
    rw [if_neg (by omega)] at h2
    exact h2
  have hs0 : sgOK D τ := hs.kc g2 (by decide)
  have hi : ∀ g, g ≤ 30 → _ := fun g hg => isSoC (d + 301) (ρ := ρ) (fr := fr) (A := A) (D := D) (σ := τ) (g := g) k (wfC ρ) hs0 hg hS (fun dd hdd => g3 hn.1 hn.2 g dd hg hdd)
  have fin : ∀ {x : Int32}, Rv ρ (ED ρ fr A D) A mX0_sure (d + 305) 31 124 30 [.ref (A 0), .int what, .int k, .int (if what = 0 then 0 else 30)] [] τ (some (.int x)) τ → Tv ρ (ED ρ fr A D) A mX0_sure (d + 305) 62 248 [.ref (A 0), .int what, .int k] σ (some (.int x)) τ := fun h => go g2.1 ⟨fun q => absurd q h1, fun _ => ⟨31, 124, _, τ, g1, ⟨by decide, by decide⟩, fun _ => h, fun q => absurd q h2⟩⟩
  refine ⟨τ, fin ?_, g2⟩
  by_cases w0 : what = 0
  · subst w0
    have up : ∀ m j, j + m = 31 → (∀ i, i < j → okC ρ D k i = false) → Rv ρ (ED ρ fr A D) A mX0_sure (d + 305) (31 - j) (124 - 4 * j) 30 [.ref (A 0), .int 0, .int k, .int (nI j)] [] τ (some (.int (sureE (okC ρ D k) 0 31))) τ := by
      intro m
      induction m with
      | zero => intro j hj hf; exact absurd (cnt_0 31 (fun i hi' => hf i (by omega))) hc
      | succ m ih =>
        intro j hj hf
        refine gc_X0_sure_30 ⟨1, 4, _, τ, hi j (by omega), ⟨by omega, by omega⟩, fun q => ⟨?_, rfl⟩, fun q => ?_⟩
        · have hb : okC ρ D k j = true := bi_ne q
          have := sure_0 (by omega) hf hb (31 - (j + 1))
          rw [show j + 1 + (31 - (j + 1)) = 31 by omega] at this
          rw [this]
        · have hb : okC ρ D k j = false := (bi_0 _).mp q
          rw [if_pos rfl, nI_1, show 31 - j - 1 = 31 - (j + 1) by omega, show 124 - 4 * j - 4 = 124 - 4 * (j + 1) by omega]
          refine ih (j + 1) (by omega) (fun i hi' => ?_)
          by_cases e : i = j
          · subst e; exact hb
          · exact hf i (by omega)
    rw [if_pos rfl]
    exact up 31 0 rfl (fun i hi' => absurd hi' (by omega))
  · have w1 : what = 1 := by
      obtain ⟨j, hj, e⟩ := isIn_n (N := 1) (by decide) h1
      match j, hj with
      | 0, _ => exact absurd e w0
      | 1, _ => exact e
    subst w1
    have dn : ∀ m j, j + m = 30 → (∀ i, j < i → i < 31 → okC ρ D k i = false) → Rv ρ (ED ρ fr A D) A mX0_sure (d + 305) (31 - m) (124 - 4 * m) 30 [.ref (A 0), .int 1, .int k, .int (nI j)] [] τ (some (.int (sureE (okC ρ D k) 1 31))) τ := by
      intro m j
      induction j generalizing m with
      | zero =>
        intro hj hf
        refine gc_X0_sure_30 ⟨1, 4, _, τ, hi 0 (by omega), ⟨by omega, by omega⟩, fun q => ⟨?_, rfl⟩, fun q => ?_⟩
        · have hb : okC ρ D k 0 = true := bi_ne q
          have := sure_1 hb 30 (fun i h3 h4 => hf i h3 (by omega))
          rw [show 0 + 1 + 30 = 31 by omega] at this
          rw [this]
        · exact absurd (cnt_0 31 (fun i hi' => by
            by_cases e : i = 0
            · subst e; exact (bi_0 _).mp q
            · exact hf i (by omega) hi')) hc
      | succ j ih =>
        intro hj hf
        refine gc_X0_sure_30 ⟨1, 4, _, τ, hi (j + 1) (by omega), ⟨by omega, by omega⟩, fun q => ⟨?_, rfl⟩, fun q => ?_⟩
        · have hb : okC ρ D k (j + 1) = true := bi_ne q
          have := sure_1 hb (30 - (j + 1)) (fun i h3 h4 => hf i h3 (by omega))
          rw [show j + 1 + 1 + (30 - (j + 1)) = 31 by omega] at this
          rw [this]
        · rw [if_neg (by decide), cl1, show 31 - m - 1 = 31 - (m + 1) by omega, show 124 - 4 * m - 4 = 124 - 4 * (m + 1) by omega]
          refine ih (m + 1) (by omega) (fun i h3 h4 => ?_)
          by_cases e : i = j + 1
          · subst e; exact (bi_0 _).mp q
          · exact hf i (by omega) h4
    rw [if_neg (by decide)]
    exact dn 0 30 rfl (fun i h3 h4 => absurd h3 (by omega))
end Su
