/-! the twin's regiment: what is read comes in force -/
set_option maxRecDepth 100000
set_option maxHeartbeats 200000
theorem reg98 (d : Nat) (σ : S8) {n : Nat} (h : σ.1 18 = nI n) (hn : n ≤ 320) : ∃ τ, kp [13, 14] σ τ ∧ τ.2.1 13 = cpk (σ.2.1 11) (σ.2.1 13) n ∧ τ.2.1 14 = cpk (σ.2.1 12) (σ.2.1 14) n ∧ ∀ r σ2, Rn8 mX8_regiment (d + 9) 138 [.int 0] (fun _ => []) τ r σ2 → Rn8 mX8_regiment (d + 9) 98 [.int 0] (fun _ => []) σ r σ2 := by
  obtain ⟨_, τ, ⟨a1, a2, a4⟩, a3⟩ := iter8 (A := Unit) (fun k _ τ r σ2 => Rn8 mX8_regiment (d + 9) 98 [.int (nI k)] (fun _ => []) τ r σ2) (fun k _ τ => kp [13, 14] σ τ ∧ τ.2.1 13 = cpk (σ.2.1 11) (σ.2.1 13) k ∧ τ.2.1 14 = cpk (σ.2.1 12) (σ.2.1 14) k) n (by
    rintro k ⟨⟩ τ hk ⟨p1, p2, p3⟩
    have ck : (nI k).toNatClampNeg = k := cl (by omega)
    have e11 : τ.2.1 11 = σ.2.1 11 := p1.2.2 11 (by decide)
    have e12 : τ.2.1 12 = σ.2.1 12 := p1.2.2 12 (by decide)
    refine ⟨(), (τ.1, upA (upA τ.2.1 13 (cpk (σ.2.1 11) (σ.2.1 13) (k + 1))) 14 (cpk (σ.2.1 12) (σ.2.1 14) (k + 1)), τ.2.2.1, τ.2.2.2), ⟨kp1 (kp1 p1 (j := 13) (by decide)) (j := 14) (by decide), ?_, upA_s (f := upA τ.2.1 13 (cpk (σ.2.1 11) (σ.2.1 13) (k + 1))) (j := 14)⟩, fun r σ2 hh => ?_⟩
    · show upA (upA τ.2.1 13 (cpk (σ.2.1 11) (σ.2.1 13) (k + 1))) 14 (cpk (σ.2.1 12) (σ.2.1 14) (k + 1)) 13 = _
      rw [upA_n (by decide), upA_s]
    · refine g8_regiment_98 ⟨fun q => absurd q (by rw [p1.1, h]; exact nI_ge hk (by omega)), fun _ => ⟨vin (by omega) (by decide), ?_⟩⟩
      rw [ck, p2, p3, e11, e12, cpk_s, cpk_s, nI_1]
      exact hh) 0 () σ (Nat.zero_le _) ⟨kp.rf, (cpk_0 _ _).symm, (cpk_0 _ _).symm⟩
  exact ⟨τ, a1, a2, a4, fun r σ2 hh => a3 r σ2 (g8_regiment_98 ⟨fun _ => hh, fun q => absurd (by rw [a1.1, h]; exact nI_le (Nat.le_refl _) (by omega)) q⟩)⟩
theorem reg138 (d : Nat) (σ : S8) {n : Nat} (h : σ.1 48 = nI n) (hn : n ≤ 6) : ∃ τ, kp [34, 35, 36] σ τ ∧ τ.2.1 34 = cpk (σ.2.1 27) (σ.2.1 34) n ∧ τ.2.1 35 = cpk (σ.2.1 28) (σ.2.1 35) n ∧ τ.2.1 36 = cpk (σ.2.1 29) (σ.2.1 36) n ∧ ∀ r σ2, Rn8 mX8_regiment (d + 9) 190 [.int 0] (fun _ => []) τ r σ2 → Rn8 mX8_regiment (d + 9) 138 [.int 0] (fun _ => []) σ r σ2 := by
  obtain ⟨_, τ, ⟨a1, a2, a4, a5⟩, a3⟩ := iter8 (A := Unit) (fun k _ τ r σ2 => Rn8 mX8_regiment (d + 9) 138 [.int (nI k)] (fun _ => []) τ r σ2) (fun k _ τ => kp [34, 35, 36] σ τ ∧ τ.2.1 34 = cpk (σ.2.1 27) (σ.2.1 34) k ∧ τ.2.1 35 = cpk (σ.2.1 28) (σ.2.1 35) k ∧ τ.2.1 36 = cpk (σ.2.1 29) (σ.2.1 36) k) n (by
    rintro k ⟨⟩ τ hk ⟨p1, p2, p3, p4⟩
    have ck : (nI k).toNatClampNeg = k := cl (by omega)
    have e27 : τ.2.1 27 = σ.2.1 27 := p1.2.2 27 (by decide)
    have e28 : τ.2.1 28 = σ.2.1 28 := p1.2.2 28 (by decide)
    have e29 : τ.2.1 29 = σ.2.1 29 := p1.2.2 29 (by decide)
    refine ⟨(), (τ.1, upA (upA (upA τ.2.1 34 (cpk (σ.2.1 27) (σ.2.1 34) (k + 1))) 35 (cpk (σ.2.1 28) (σ.2.1 35) (k + 1))) 36 (cpk (σ.2.1 29) (σ.2.1 36) (k + 1)), τ.2.2.1, τ.2.2.2), ⟨kp1 (kp1 (kp1 p1 (j := 34) (by decide)) (j := 35) (by decide)) (j := 36) (by decide), ?_, ?_, upA_s (f := upA (upA τ.2.1 34 (cpk (σ.2.1 27) (σ.2.1 34) (k + 1))) 35 (cpk (σ.2.1 28) (σ.2.1 35) (k + 1))) (j := 36)⟩, fun r σ2 hh => ?_⟩
    · show upA (upA (upA τ.2.1 34 (cpk (σ.2.1 27) (σ.2.1 34) (k + 1))) 35 (cpk (σ.2.1 28) (σ.2.1 35) (k + 1))) 36 (cpk (σ.2.1 29) (σ.2.1 36) (k + 1)) 34 = _
      rw [upA_n (by decide), upA_n (by decide), upA_s]
    · show upA (upA (upA τ.2.1 34 (cpk (σ.2.1 27) (σ.2.1 34) (k + 1))) 35 (cpk (σ.2.1 28) (σ.2.1 35) (k + 1))) 36 (cpk (σ.2.1 29) (σ.2.1 36) (k + 1)) 35 = _
      rw [upA_n (by decide), upA_s]
    · refine g8_regiment_138 ⟨fun q => absurd q (by rw [p1.1, h]; exact nI_ge hk (by omega)), fun _ => ⟨vin (by omega) (by decide), ?_⟩⟩
      rw [ck, p2, p3, p4, e27, e28, e29, cpk_s, cpk_s, cpk_s, nI_1]
      exact hh) 0 () σ (Nat.zero_le _) ⟨kp.rf, (cpk_0 _ _).symm, (cpk_0 _ _).symm, (cpk_0 _ _).symm⟩
  exact ⟨τ, a1, a2, a4, a5, fun r σ2 hh => a3 r σ2 (g8_regiment_138 ⟨fun _ => hh, fun q => absurd (by rw [a1.1, h]; exact nI_le (Nat.le_refl _) (by omega)) q⟩)⟩
theorem reg190 (d : Nat) (σ : S8) {n : Nat} (h : σ.1 49 = nI n) (hn : n ≤ 6) : ∃ τ, kp [37, 38, 39, 40] σ τ ∧ τ.2.1 37 = cpk (σ.2.1 30) (σ.2.1 37) n ∧ τ.2.1 38 = cpk (σ.2.1 31) (σ.2.1 38) n ∧ τ.2.1 39 = cpk (σ.2.1 32) (σ.2.1 39) n ∧ τ.2.1 40 = cpk (σ.2.1 33) (σ.2.1 40) n ∧ ∀ r σ2, (∃ σ_2 : S8, Tw8 mX8_begin (d + 8) [] τ none σ_2 ∧ (∃ σ_4 : S8, Tw8 mX8_keepAir (d + 8) [] (σ_2.1, upA σ_2.2.1 60 (upd (σ_2.2.1 60) 38 (σ_2.1 47)), σ_2.2.2.1, σ_2.2.2.2) none σ_4 ∧ (Rn8 mX8_regiment (d + 9) 293 [.int 0] (fun T => []) (upd (upd (upd (upd σ_4.1 62 0) 63 0) 73 0) 67 0, σ_4.2.1, σ_4.2.2.1, σ_4.2.2.2) r σ2))) → Rn8 mX8_regiment (d + 9) 190 [.int 0] (fun _ => []) σ r σ2 := by
  obtain ⟨_, τ, ⟨a1, a2, a4, a5, a6⟩, a3⟩ := iter8 (A := Unit) (fun k _ τ r σ2 => Rn8 mX8_regiment (d + 9) 190 [.int (nI k)] (fun _ => []) τ r σ2) (fun k _ τ => kp [37, 38, 39, 40] σ τ ∧ τ.2.1 37 = cpk (σ.2.1 30) (σ.2.1 37) k ∧ τ.2.1 38 = cpk (σ.2.1 31) (σ.2.1 38) k ∧ τ.2.1 39 = cpk (σ.2.1 32) (σ.2.1 39) k ∧ τ.2.1 40 = cpk (σ.2.1 33) (σ.2.1 40) k) n (by
    rintro k ⟨⟩ τ hk ⟨p1, p2, p3, p4, p5⟩
    have ck : (nI k).toNatClampNeg = k := cl (by omega)
    have e30 : τ.2.1 30 = σ.2.1 30 := p1.2.2 30 (by decide)
    have e31 : τ.2.1 31 = σ.2.1 31 := p1.2.2 31 (by decide)
    have e32 : τ.2.1 32 = σ.2.1 32 := p1.2.2 32 (by decide)
    have e33 : τ.2.1 33 = σ.2.1 33 := p1.2.2 33 (by decide)
    refine ⟨(), (τ.1, (upA (upA (upA (upA τ.2.1 37 (cpk (σ.2.1 30) (σ.2.1 37) (k + 1))) 38 (cpk (σ.2.1 31) (σ.2.1 38) (k + 1))) 39 (cpk (σ.2.1 32) (σ.2.1 39) (k + 1))) 40 (cpk (σ.2.1 33) (σ.2.1 40) (k + 1))), τ.2.2.1, τ.2.2.2), ⟨kp1 (kp1 (kp1 (kp1 p1 (j := 37) (by decide)) (j := 38) (by decide)) (j := 39) (by decide)) (j := 40) (by decide), ?_, ?_, ?_, upA_s (f := (upA (upA (upA τ.2.1 37 (cpk (σ.2.1 30) (σ.2.1 37) (k + 1))) 38 (cpk (σ.2.1 31) (σ.2.1 38) (k + 1))) 39 (cpk (σ.2.1 32) (σ.2.1 39) (k + 1)))) (j := 40)⟩, fun r σ2 hh => ?_⟩
    · show (upA (upA (upA (upA τ.2.1 37 (cpk (σ.2.1 30) (σ.2.1 37) (k + 1))) 38 (cpk (σ.2.1 31) (σ.2.1 38) (k + 1))) 39 (cpk (σ.2.1 32) (σ.2.1 39) (k + 1))) 40 (cpk (σ.2.1 33) (σ.2.1 40) (k + 1))) 37 = _
      rw [upA_n (by decide), upA_n (by decide), upA_n (by decide), upA_s]
    · show (upA (upA (upA (upA τ.2.1 37 (cpk (σ.2.1 30) (σ.2.1 37) (k + 1))) 38 (cpk (σ.2.1 31) (σ.2.1 38) (k + 1))) 39 (cpk (σ.2.1 32) (σ.2.1 39) (k + 1))) 40 (cpk (σ.2.1 33) (σ.2.1 40) (k + 1))) 38 = _
      rw [upA_n (by decide), upA_n (by decide), upA_s]
    · show (upA (upA (upA (upA τ.2.1 37 (cpk (σ.2.1 30) (σ.2.1 37) (k + 1))) 38 (cpk (σ.2.1 31) (σ.2.1 38) (k + 1))) 39 (cpk (σ.2.1 32) (σ.2.1 39) (k + 1))) 40 (cpk (σ.2.1 33) (σ.2.1 40) (k + 1))) 39 = _
      rw [upA_n (by decide), upA_s]
    · refine g8_regiment_190 ⟨fun q => absurd q (by rw [p1.1, h]; exact nI_ge hk (by omega)), fun _ => ⟨vin (by omega) (by decide), ?_⟩⟩
      rw [ck, p2, p3, p4, p5, e30, e31, e32, e33, cpk_s, cpk_s, cpk_s, cpk_s, nI_1]
      exact hh) 0 () σ (Nat.zero_le _) ⟨kp.rf, (cpk_0 _ _).symm, (cpk_0 _ _).symm, (cpk_0 _ _).symm, (cpk_0 _ _).symm⟩
  exact ⟨τ, a1, a2, a4, a5, a6, fun r σ2 hh => a3 r σ2 (g8_regiment_190 ⟨fun _ => hh, fun q => absurd (by rw [a1.1, h]; exact nI_le (Nat.le_refl _) (by omega)) q⟩)⟩
theorem reg293 (d : Nat) (σ : S8) : ∃ τ, kp [77] σ τ ∧ τ.2.1 77 = cpk (fun _ => 0) (σ.2.1 77) 3 ∧ Rn8 mX8_regiment (d + 9) 293 [.int 0] (fun _ => []) σ (some (.int (σ.1 48))) τ := by
  obtain ⟨_, τ, ⟨a1, a2⟩, a3⟩ := iter8 (A := Unit) (fun k _ τ r σ2 => Rn8 mX8_regiment (d + 9) 293 [.int (nI k)] (fun _ => []) τ r σ2) (fun k _ τ => kp [77] σ τ ∧ τ.2.1 77 = cpk (fun _ => 0) (σ.2.1 77) k) 3 (by
    rintro k ⟨⟩ τ hk ⟨p1, p2⟩
    have ck : (nI k).toNatClampNeg = k := cl (by omega)
    refine ⟨(), (τ.1, upA τ.2.1 77 (cpk (fun _ => 0) (σ.2.1 77) (k + 1)), τ.2.2.1, τ.2.2.2), ⟨kp1 p1 (j := 77) (by decide), upA_s (f := τ.2.1) (j := 77)⟩, fun r σ2 hh => ?_⟩
    refine g8_regiment_293 ⟨fun q => absurd q (nI_ge (b := 3) hk (by decide)), fun _ => ⟨vin (by omega) (by decide), ?_⟩⟩
    rw [ck, p2, cpk_s (fun _ => 0), nI_1]
    exact hh) 0 () σ (Nat.zero_le _) ⟨kp.rf, (cpk_0 _ _).symm⟩
  exact ⟨τ, a1, a2, a3 _ _ (g8_regiment_293 ⟨fun _ => ⟨by rw [a1.1], rfl⟩, fun q => absurd (by decide) q⟩)⟩
