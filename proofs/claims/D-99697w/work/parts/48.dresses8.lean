/-! the twin's public members: the best dress, all dresses -/
set_option maxRecDepth 100000
/-- the first k places become R, the others stay L -/
def cpk (R L : Nat → Int32) (k : Nat) : Nat → Int32 := fun i => if i < k then R i else L i
theorem cpk_0 (R L : Nat → Int32) : cpk R L 0 = L := by
  funext i
  unfold cpk
  rw [if_neg (by omega)]
theorem cpk_s (R L : Nat → Int32) (k : Nat) : upd (cpk R L k) k (R k) = cpk R L (k + 1) := by
  funext i
  unfold cpk
  by_cases e : i = k
  · rw [e, upd_s, if_pos (by omega)]
  · rw [upd_n e]
    by_cases h : i < k
    · rw [if_pos h, if_pos (by omega)]
    · rw [if_neg h, if_neg (by omega)]
abbrev DP8 : Type := Int32 × Int32 × (Nat → Int32)
def dpN (ill : Nat → Nat → Int32) (st : Int32) (nm nc code : Nat) : Int32 := drN (drE ill st nm nc code nm)
def dpS (ill : Nat → Nat → Int32) (st : Int32) (nm nc code : Nat) (p : DP8) : DP8 :=
  if dpN ill st nm nc code < 0 then p else if dpN ill st nm nc code < p.1 then p else
  if dpN ill st nm nc code = p.1 ∧ ¬ ilE ill nm nc code nm < p.2.1 then p else
  (dpN ill st nm nc code, ilE ill nm nc code nm, cpk (fun m => rowD nc code (nm - 1 - m)) p.2.2 nm)
def dpE (ill : Nat → Nat → Int32) (st : Int32) (nm nc : Nat) (L : Nat → Int32) : Nat → DP8 := acc8 (fun code p => dpS ill st nm nc code p) (-1, 0, L)
theorem dpE_s (ill : Nat → Nat → Int32) (st : Int32) (nm nc : Nat) (L : Nat → Int32) (code : Nat) : dpE ill st nm nc L (code + 1) = dpS ill st nm nc code (dpE ill st nm nc L code) := rfl
theorem pow76 {b n : Nat} (hb : b ≤ 7) (hn : n ≤ 6) : b ^ n < 1000000 := by
  have h1 : b ^ n ≤ 7 ^ n := Nat.pow_le_pow_left hb n
  have h2 : 7 ^ n ≤ 7 ^ 6 := Nat.pow_le_pow_right (by decide) hn
  have h3 : (7 : Nat) ^ 6 = 117649 := by decide
  omega
theorem power_nI (b n : Nat) (hn : n < 1000000) : s8_power (nI b) (nI n) = nI (b ^ n) := by
  unfold s8_power
  rw [cl hn]
  exact pw8_nI b n
theorem kL.st {σ τ : S8} {x : Int32} {L g : Nat → Int32} (h : kL σ x L τ) : kL σ x g (τ.1, upA τ.2.1 64 g, τ.2.2.1, τ.2.2.2) :=
  ⟨h.1, upA_s (f := τ.2.1) (j := 64) (g := g), h.2.2.1, h.2.2.2.1, fun j hj => (upA_n (f := τ.2.1) (j := 64) (g := g) (fun e => hj (by rw [e]; decide))).trans (h.2.2.2.2 j hj)⟩
theorem dressM (d : Nat) (σ : S8) (what : Int32) {nm nc : Nat} (hR : R8 σ nm nc) : M8 mX8_dress (d + 5) [.int what] σ (if s8_isIn what 0 1 = 0 then -1 else if what = 0 then (dpE (misE (env8 σ) (σ.2.1 59)) (σ.1 50) nm nc (σ.2.1 64) ((nc + 1) ^ nm)).1 else (dpE (misE (env8 σ) (σ.2.1 59)) (σ.1 50) nm nc (σ.2.1 64) ((nc + 1) ^ nm)).2.1)
    (if s8_isIn what 0 1 = 0 then σ else (upd σ.1 67 (nI nm), upA σ.2.1 64 (dpE (misE (env8 σ) (σ.2.1 59)) (σ.1 50) nm nc (σ.2.1 64) ((nc + 1) ^ nm)).2.2, σ.2.2)) := by
  have h6 := hR.2.1
  have hc6 := hR.2.2.2.1
  have hP := pow76 (b := nc + 1) (n := nm) (by omega) h6
  have go : ∀ {r σ1}, _ → Tw8 mX8_dress (d + 5) [.int what] σ r σ1 := fun h => Tw8.ofR [.int what, U_, U_, U_, U_, U_] (by decide) (fun _ => rfl) (fun _ _ => Nat.le_of_ble_eq_true rfl) (g8_dress_0 h)
  by_cases h1 : s8_isIn what 0 1 = 0
  · rw [if_pos h1, if_pos h1]
    exact ⟨σ, go ⟨fun q => absurd h1 q, fun _ => ⟨rfl, rfl⟩⟩, PK.rf⟩
  rw [if_neg h1, if_neg h1]
  obtain ⟨σ1, t1, t2, t3, t4⟩ := layIllsT8 d σ hR
  have l0 : kL σ (σ.1 67) (σ.2.1 64) σ := ⟨rfl, rfl, fun _ _ => rfl, rfl, fun _ _ => rfl⟩
  have l1 : kL σ (σ.1 67) (σ.2.1 64) σ1 := l0.kp t2 (by decide)
  generalize misE (env8 σ) (σ.2.1 59) = ill at t4 ⊢
  have key : ∃ p : DP8, ∃ τ : S8, (p = dpE ill (σ.1 50) nm nc (σ.2.1 64) ((nc + 1) ^ nm) ∧ kL σ (σ.1 67) p.2.2 τ ∧ τ.2.1 66 = σ1.2.1 66) ∧ ∀ r σ2, Rn8 mX8_dress (d + 5) 22 [.int what, .int p.1, .int p.2.1, .int (nI ((nc + 1) ^ nm)), U_, U_] (fun _ => []) τ r σ2 → Rn8 mX8_dress (d + 5) 22 [.int what, .int (-1), .int 0, .int (nI 0), U_, U_] (fun _ => []) σ1 r σ2 :=
    iter8 (A := DP8) (fun code p τ r σ2 => Rn8 mX8_dress (d + 5) 22 [.int what, .int p.1, .int p.2.1, .int (nI code), U_, U_] (fun _ => []) τ r σ2) (fun code p τ => p = dpE ill (σ.1 50) nm nc (σ.2.1 64) code ∧ kL σ (σ.1 67) p.2.2 τ ∧ τ.2.1 66 = σ1.2.1 66) ((nc + 1) ^ nm) (by
    rintro code p τ hcd ⟨z0, z1, z2⟩
    have t48 : τ.1 48 = nI nm := by rw [z1.2.2.1 48 (by decide)]; exact hR.1
    have t49 : τ.1 49 = nI nc := by rw [z1.2.2.1 49 (by decide)]; exact hR.2.2.1
    have t50 : τ.1 50 = σ.1 50 := z1.2.2.1 50 (by decide)
    have hpw : s8_power (τ.1 49 + 1) (τ.1 48) = nI ((nc + 1) ^ nm) := by
      rw [t48, t49, show nI nc + 1 = nI (nc + 1) from nI_1 nc]
      exact power_nI _ _ (by omega)
    have hex : ¬ s8_power (τ.1 49 + 1) (τ.1 48) ≤ nI code := by rw [hpw]; exact nI_ge hcd (by omega)
    obtain ⟨τ1, y1, y2, y3⟩ := layDressT8 (d + 3) τ ill (code := code) (nm := nm) (nc := nc) (by omega) t48 h6 t49 hc6 (fun a b ha hb => by rw [z2]; exact t4 a b ha hb)
    rw [t50] at y1 y3
    have k1 : kL σ (σ.1 67) p.2.2 τ1 := z1.kp y2 (by decide)
    have e66 : τ1.2.1 66 = σ1.2.1 66 := by rw [y2.2.2 66 (by decide)]; exact z2
    have u48 : τ1.1 48 = nI nm := by rw [y2.1]; exact t48
    -- nothing better
    have same : dpS ill (σ.1 50) nm nc code p = p → (∀ {r σ2}, Rn8 mX8_dress (d + 5) 22 [.int what, .int p.1, .int p.2.1, .int (nI (code + 1)), U_, U_] (fun _ => []) τ1 r σ2 → Rn8 mX8_dress (d + 5) 22 [.int what, .int p.1, .int p.2.1, .int (nI code), U_, U_] (fun _ => []) τ r σ2) → ∃ p1 τ2, (p1 = dpE ill (σ.1 50) nm nc (σ.2.1 64) (code + 1) ∧ kL σ (σ.1 67) p1.2.2 τ2 ∧ τ2.2.1 66 = σ1.2.1 66) ∧ ∀ r σ2, Rn8 mX8_dress (d + 5) 22 [.int what, .int p1.1, .int p1.2.1, .int (nI (code + 1)), U_, U_] (fun _ => []) τ2 r σ2 → Rn8 mX8_dress (d + 5) 22 [.int what, .int p.1, .int p.2.1, .int (nI code), U_, U_] (fun _ => []) τ r σ2 := fun e h => ⟨p, τ1, ⟨by rw [dpE_s, ← z0, e], k1, e66⟩, fun r σ2 q => h q⟩
    by_cases c1 : dpN ill (σ.1 50) nm nc code < 0
    · refine same (by unfold dpS; rw [if_pos c1]) (fun h => g8_dress_22 ⟨fun q => absurd q hex, fun _ => ⟨_, _, y1, fun _ => ?_, fun q => absurd c1 q⟩⟩)
      rw [nI_1]; exact h
    by_cases c2 : dpN ill (σ.1 50) nm nc code < p.1
    · refine same (by unfold dpS; rw [if_neg c1, if_pos c2]) (fun h => g8_dress_22 ⟨fun q => absurd q hex, fun _ => ⟨_, _, y1, fun q => absurd q c1, fun _ => ⟨fun _ => ?_, fun q => absurd c2 q⟩⟩⟩)
      rw [nI_1]; exact h
    have hr : ∀ m, m < nm → τ1.2.1 65 m = rowD nc code (nm - 1 - m) := y3 (fun e => c1 (by unfold dpN; rw [e]; decide))
    have il := illOfRowT8 (d + 3) τ1 ill (code := code) u48 h6 hc6 (fun a b ha hb => by rw [e66]; exact t4 a b ha hb) hr
    by_cases c3 : dpN ill (σ.1 50) nm nc code = p.1 ∧ ¬ ilE ill nm nc code nm < p.2.1
    · refine same (by unfold dpS; rw [if_neg c1, if_neg c2, if_pos c3]) (fun h => g8_dress_22 ⟨fun q => absurd q hex, fun _ => ⟨_, _, y1, fun q => absurd q c1, fun _ => ⟨fun q => absurd q c2, fun _ => ⟨fun q => absurd c3.1 q, fun _ => ⟨_, _, il, fun q => absurd q c3.2, fun _ => ?_⟩⟩⟩⟩⟩)
      rw [nI_1]; exact h
    -- a better one
    have key2 : ∃ u : Unit, ∃ τ2 : S8, (kL σ (σ.1 67) (cpk (fun m => rowD nc code (nm - 1 - m)) p.2.2 nm) τ2 ∧ τ2.2.1 66 = σ1.2.1 66 ∧ τ2.2.1 65 = τ1.2.1 65) ∧ ∀ r σ2, Rn8 mX8_dress (d + 5) 87 [.int what, .int (dpN ill (σ.1 50) nm nc code), .int (ilE ill nm nc code nm), .int (nI code), .int (dpN ill (σ.1 50) nm nc code), .int (nI nm)] (fun _ => []) τ2 r σ2 → Rn8 mX8_dress (d + 5) 87 [.int what, .int (dpN ill (σ.1 50) nm nc code), .int (ilE ill nm nc code nm), .int (nI code), .int (dpN ill (σ.1 50) nm nc code), .int (nI 0)] (fun _ => []) τ1 r σ2 :=
      iter8 (A := Unit) (fun k _ τ r σ2 => Rn8 mX8_dress (d + 5) 87 [.int what, .int (dpN ill (σ.1 50) nm nc code), .int (ilE ill nm nc code nm), .int (nI code), .int (dpN ill (σ.1 50) nm nc code), .int (nI k)] (fun _ => []) τ r σ2) (fun k _ τ2 => kL σ (σ.1 67) (cpk (fun m => rowD nc code (nm - 1 - m)) p.2.2 k) τ2 ∧ τ2.2.1 66 = σ1.2.1 66 ∧ τ2.2.1 65 = τ1.2.1 65) nm (by
      rintro k ⟨⟩ τ2 hk ⟨x1, x2, x3⟩
      have v48 : τ2.1 48 = nI nm := by rw [x1.2.2.1 48 (by decide)]; exact hR.1
      have ck : (nI k).toNatClampNeg = k := cl (by omega)
      refine ⟨(), (τ2.1, upA τ2.2.1 64 (cpk (fun m => rowD nc code (nm - 1 - m)) p.2.2 (k + 1)), τ2.2.2.1, τ2.2.2.2), ⟨x1.st, ?_, ?_⟩, fun r σ2 h => g8_dress_87 ⟨fun q => absurd q (by rw [v48]; exact nI_ge hk (by omega)), fun _ => ⟨vin (by omega) (by decide), ?_⟩⟩⟩
      · exact (upA_n (f := τ2.2.1) (j := 64) (g := cpk (fun m => rowD nc code (nm - 1 - m)) p.2.2 (k + 1)) (by decide)).trans x2
      · exact (upA_n (f := τ2.2.1) (j := 64) (g := cpk (fun m => rowD nc code (nm - 1 - m)) p.2.2 (k + 1)) (by decide)).trans x3
      · rw [ck, x1.2.1, x3, hr k hk, cpk_s (fun m => rowD nc code (nm - 1 - m)), nI_1]
        exact h) 0 () τ1 (Nat.zero_le _) ⟨by rw [cpk_0]; exact k1, e66, rfl⟩
    obtain ⟨_, τ2, ⟨x1, x2, x3⟩, x4⟩ := key2
    have v48 : τ2.1 48 = nI nm := by rw [x1.2.2.1 48 (by decide)]; exact hR.1
    refine ⟨(dpN ill (σ.1 50) nm nc code, ilE ill nm nc code nm, cpk (fun m => rowD nc code (nm - 1 - m)) p.2.2 nm), τ2, ⟨?_, x1, x2⟩, fun r σ2 h => ?_⟩
    · rw [dpE_s, ← z0]
      unfold dpS
      rw [if_neg c1, if_neg c2, if_neg c3]
    · have h87 := x4 r σ2 (g8_dress_87 ⟨fun _ => by rw [nI_1]; exact h, fun q => absurd (by rw [v48]; exact nI_le (Nat.le_refl _) (by omega)) q⟩)
      refine g8_dress_22 ⟨fun q => absurd q hex, fun _ => ⟨_, _, y1, fun q => absurd q c1, fun _ => ⟨fun q => absurd q c2, fun _ => ⟨fun _ => ⟨_, _, il, h87⟩, fun q => ⟨_, _, il, fun _ => ⟨_, _, il, h87⟩, fun q2 => absurd ⟨q, q2⟩ c3⟩⟩⟩⟩⟩) 0 (-1, 0, σ.2.1 64) σ1 (Nat.zero_le _) ⟨rfl, l1, rfl⟩
  obtain ⟨p, τ, ⟨z0, z1, z2⟩, z3⟩ := key
  rw [← z0]
  have t48 : τ.1 48 = nI nm := by rw [z1.2.2.1 48 (by decide)]; exact hR.1
  have t49 : τ.1 49 = nI nc := by rw [z1.2.2.1 49 (by decide)]; exact hR.2.2.1
  have hpw : s8_power (τ.1 49 + 1) (τ.1 48) = nI ((nc + 1) ^ nm) := by
    rw [t48, t49, show nI nc + 1 = nI (nc + 1) from nI_1 nc]
    exact power_nI _ _ (by omega)
  refine ⟨(upd τ.1 67 (τ.1 48), τ.2.1, τ.2.2.1, τ.2.2.2), go ⟨fun _ => ⟨_, t1, z3 _ _ (g8_dress_22 ⟨fun _ => ⟨rfl, rfl⟩, fun q => absurd (by rw [hpw]; exact nI_le (Nat.le_refl _) (by omega)) q⟩)⟩, fun q => absurd q h1⟩, ?_⟩
  refine kL.PK ⟨?_, z1.2.1, fun j hj => ?_, z1.2.2.2.1, z1.2.2.2.2⟩
  · show upd τ.1 67 (τ.1 48) 67 = _
    rw [upd_s]; exact t48
  · show upd τ.1 67 (τ.1 48) j = _
    rw [upd_n hj]; exact z1.2.2.1 j hj
