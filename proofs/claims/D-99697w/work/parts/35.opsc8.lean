/-! the twin's public members: acts -/
set_option maxRecDepth 100000
theorem stPK {σ τ : S8} (h : PK σ τ) (j : Nat) (g : Nat → Int32) : PK (stA σ j g) (stA τ j g) := by
  refine ⟨h.1, fun q hq => ?_⟩
  by_cases e : q = j
  · subst e; rw [stA_s, stA_s]
  · rw [stA_n e, stA_n e]; exact h.2 q hq
theorem actPK {σ τ : S8} {a : Nat} (h : PK σ τ) : PK (actS σ a) (actS τ a) := by
  refine ⟨fun j hj => ?_, fun j hj => ?_⟩
  · show upd (upd τ.1 62 _) 63 0 j = upd (upd σ.1 62 _) 63 0 j
    by_cases e1 : j = 63
    · subst e1; rw [upd_s, upd_s]
    · rw [upd_n e1, upd_n e1]
      by_cases e2 : j = 62
      · subst e2; rw [upd_s, upd_s]
      · rw [upd_n e2, upd_n e2]; exact h.1 j hj
  · show upA (upA τ.2.1 61 (actW (τ.2.1 61) (τ.2.1 59) a)) 60 (τ.2.1 59) j = upA (upA σ.2.1 61 (actW (σ.2.1 61) (σ.2.1 59) a)) 60 (σ.2.1 59) j
    rw [h.2 59 (by decide), h.2 61 (by decide)]
    have e1 : j ≠ 60 := fun e => by subst e; revert hj; decide
    rw [upA_n e1, upA_n e1]
    by_cases e2 : j = 61
    · subst e2; rw [upA_s, upA_s]
    · rw [upA_n e2, upA_n e2]; exact h.2 j hj
theorem actS_59 {σ : S8} {a : Nat} : (actS σ a).2.1 59 = σ.2.1 59 := by
  unfold actS
  show upA (upA σ.2.1 61 (actW (σ.2.1 61) (σ.2.1 59) a)) 60 (σ.2.1 59) 59 = σ.2.1 59
  rw [upA_n (by decide), upA_n (by decide)]
/-- an act is kept, then all is as g -/
def setN (σ : S8) (a : Nat) (g : Nat → Int32) : S8 := stA (actS σ a) 59 g
theorem donM (d : Nat) (σ : S8) (m c : Int32) {nm nc a : Nat} (hR : R8 σ nm nc) (ha : σ.1 62 = nI a) (h40 : a ≤ 40) :
    M8 mX8_don (d + 3) [.int m, .int c] σ (if idx m nm && (idx c nc && decide (wearer8 (σ.2.1 59) c nm < 0)) then σ.2.1 59 (6 + m.toNatClampNeg) else -2) (if idx m nm && (idx c nc && decide (wearer8 (σ.2.1 59) c nm < 0)) then setN σ a (upd (σ.2.1 59) (6 + m.toNatClampNeg) c) else σ) := by
  have h6 := hR.2.1
  have hw := wearerT8 (d + 1) (stA σ 60 (σ.2.1 59)) c nm (fillR hR).1 h6
  rw [stA_s] at hw
  have go : ∀ {r σ1}, _ → Tw8 mX8_don (d + 3) [.int m, .int c] σ r σ1 := fun h => Tw8.ofR [.int m, .int c, U_] (by decide) (fun _ => rfl) (fun _ _ => Nat.le_of_ble_eq_true rfl) (g8_don_0 ⟨_, fillX (d + 1) σ, _, _, isManT8 d _ m (fillR hR), h⟩)
  cases h1 : idx m nm
  · exact ⟨_, go ⟨fun _ => ⟨rfl, rfl⟩, fun q => absurd (bi_f h1) q⟩, fillPK⟩
  cases h2 : idx c nc
  · exact ⟨_, go ⟨fun q => absurd q (bi_t h1), fun _ => ⟨_, _, isCoatT8 d _ c (fillR hR), fun _ => ⟨rfl, rfl⟩, fun q => absurd (bi_f h2) q⟩⟩, fillPK⟩
  obtain ⟨m', hm, em⟩ := idx_of h1 (by omega)
  by_cases h3 : wearer8 (σ.2.1 59) c nm < 0
  · rw [decide_eq_true h3]
    have e6 : (6 + m).toNatClampNeg = 6 + m' := by rw [em, n6]; exact cl (by omega)
    have em' : m.toNatClampNeg = m' := by rw [em]; exact cl (by omega)
    refine ⟨_, go ⟨fun q => absurd q (bi_t h1), fun _ => ⟨_, _, isCoatT8 d _ c (fillR hR), fun q => absurd q (bi_t h2), fun _ => ⟨_, _, hw, fun _ => ⟨_, actT8 d _ a ha h40, by rw [em, n6]; exact vin (by omega) (by decide), ?_, rfl⟩, fun q => absurd h3 q⟩⟩⟩, ?_⟩
    · rw [e6, em', actS_59, stA_n (by decide)]
      rfl
    · rw [e6, em', actS_59, stA_n (by decide)]
      exact stPK (actPK fillPK) 59 _
  · rw [decide_eq_false h3]
    exact ⟨_, go ⟨fun q => absurd q (bi_t h1), fun _ => ⟨_, _, isCoatT8 d _ c (fillR hR), fun q => absurd q (bi_t h2), fun _ => ⟨_, _, hw, fun q => absurd q h3, fun _ => ⟨rfl, rfl⟩⟩⟩⟩, fillPK⟩
theorem doffM (d : Nat) (σ : S8) (m : Int32) {nm nc a : Nat} (hR : R8 σ nm nc) (ha : σ.1 62 = nI a) (h40 : a ≤ 40) :
    M8 mX8_doff (d + 3) [.int m] σ (if idx m nm && decide (0 ≤ σ.2.1 59 (6 + m.toNatClampNeg)) then σ.2.1 59 (6 + m.toNatClampNeg) else -1) (if idx m nm && decide (0 ≤ σ.2.1 59 (6 + m.toNatClampNeg)) then setN σ a (upd (σ.2.1 59) (6 + m.toNatClampNeg) (-1)) else σ) := by
  have h6 := hR.2.1
  have go : ∀ {r σ1}, _ → Tw8 mX8_doff (d + 3) [.int m] σ r σ1 := fun h => Tw8.ofR [.int m, U_] (by decide) (fun _ => rfl) (fun _ _ => Nat.le_of_ble_eq_true rfl) (g8_doff_0 ⟨_, _, isManT8 d _ m hR, h⟩)
  cases h1 : idx m nm
  · exact ⟨_, go ⟨fun _ => ⟨rfl, rfl⟩, fun q => absurd (bi_f h1) q⟩, PK.rf⟩
  obtain ⟨m', hm, em⟩ := idx_of h1 (by omega)
  have e6 : (6 + m).toNatClampNeg = 6 + m' := by rw [em, n6]; exact cl (by omega)
  have em' : m.toNatClampNeg = m' := by rw [em]; exact cl (by omega)
  have b6 : vp_in (6 + m) 39 := by rw [em, n6]; exact vin (by omega) (by decide)
  rw [em']
  by_cases h3 : 0 ≤ σ.2.1 59 (6 + m')
  · rw [decide_eq_true h3]
    refine ⟨_, go ⟨fun q => absurd q (bi_t h1), fun _ => ⟨b6, fun _ => ⟨_, actT8 d _ a ha h40, ?_, rfl⟩, fun q => absurd (by rw [e6]; exact h3) q⟩⟩, ?_⟩
    · rw [e6, actS_59]
      rfl
    · rw [e6, actS_59]
      exact PK.rf
  · rw [decide_eq_false h3]
    exact ⟨_, go ⟨fun q => absurd q (bi_t h1), fun _ => ⟨b6, fun q => absurd (by rw [e6] at q; exact q) h3, fun _ => ⟨rfl, rfl⟩⟩⟩, PK.rf⟩
def letV (v : Nat → Int32) (c : Nat) (i : Int32) : Nat → Int32 := upd (upd v (24 + c) (v (24 + c) - i)) (18 + c) (v (18 + c) + i)
def letB (v : Nat → Int32) (c : Nat) (i : Int32) : Bool := decide (¬ s8_isIn i 1 (v (24 + c)) = 0) && decide (v (18 + c) + i ≤ 99)
theorem letoutM (d : Nat) (σ : S8) (c i : Int32) {nm nc a : Nat} (hR : R8 σ nm nc) (ha : σ.1 62 = nI a) (h40 : a ≤ 40) :
    M8 mX8_letout (d + 3) [.int c, .int i] σ (if idx c nc && letB (σ.2.1 59) c.toNatClampNeg i then σ.2.1 59 (18 + c.toNatClampNeg) + i else -1) (if idx c nc && letB (σ.2.1 59) c.toNatClampNeg i then setN σ a (letV (σ.2.1 59) c.toNatClampNeg i) else σ) := by
  have h6 := hR.2.2.2.1
  have go : ∀ {r σ1}, _ → Tw8 mX8_letout (d + 3) [.int c, .int i] σ r σ1 := fun h => Tw8.ofR [.int c, .int i] (by decide) (fun _ => rfl) (fun _ _ => Nat.le_of_ble_eq_true rfl) (g8_letout_0 ⟨_, _, isCoatT8 d _ c hR, h⟩)
  cases h1 : idx c nc
  · exact ⟨_, go ⟨fun _ => ⟨rfl, rfl⟩, fun q => absurd (bi_f h1) q⟩, PK.rf⟩
  obtain ⟨c', hc, ec⟩ := idx_of h1 (by omega)
  have e24 : (24 + c).toNatClampNeg = 24 + c' := by rw [ec, n24]; exact cl (by omega)
  have e18 : (18 + c).toNatClampNeg = 18 + c' := by rw [ec, n18]; exact cl (by omega)
  have ec' : c.toNatClampNeg = c' := by rw [ec]; exact cl (by omega)
  have b24 : vp_in (24 + c) 39 := by rw [ec, n24]; exact vin (by omega) (by decide)
  have b18 : vp_in (18 + c) 39 := by rw [ec, n18]; exact vin (by omega) (by decide)
  rw [ec']
  unfold letB
  by_cases h2 : s8_isIn i 1 (σ.2.1 59 (24 + c')) = 0
  · rw [decide_eq_false (fun q => q h2)]
    exact ⟨_, go ⟨fun q => absurd q (bi_t h1), fun _ => ⟨b24, fun _ => ⟨rfl, rfl⟩, fun q => absurd (by rw [e24]; exact h2) q⟩⟩, PK.rf⟩
  rw [decide_eq_true h2]
  by_cases h3 : σ.2.1 59 (18 + c') + i ≤ 99
  · rw [decide_eq_true h3]
    refine ⟨_, go ⟨fun q => absurd q (bi_t h1), fun _ => ⟨b24, fun q => absurd (by rw [e24] at q; exact q) h2, fun _ => ⟨b18, fun _ => ⟨_, actT8 d _ a ha h40, ?_, rfl⟩, fun q => absurd (by rw [e18]; exact h3) q⟩⟩⟩, ?_⟩
    · rw [e24, e18, actS_59, upd_s, upd_n (by omega)]
      rfl
    · rw [e24, e18, actS_59, upd_n (show 18 + c' ≠ 24 + c' by omega)]
      exact PK.rf
  · rw [decide_eq_false h3]
    exact ⟨_, go ⟨fun q => absurd q (bi_t h1), fun _ => ⟨b24, fun q => absurd (by rw [e24] at q; exact q) h2, fun _ => ⟨b18, fun q => absurd (by rw [e18] at q; exact q) h3, fun _ => ⟨rfl, rfl⟩⟩⟩⟩, PK.rf⟩
def takV (v : Nat → Int32) (c : Nat) (i : Int32) : Nat → Int32 := upd (upd v (24 + c) (v (24 + c) + i)) (18 + c) (v (18 + c) - i)
def takB (v : Nat → Int32) (c : Nat) (i : Int32) : Bool := decide (¬ s8_isIn i 1 (v (18 + c)) = 0) && decide (v (24 + c) + i ≤ 99)
theorem takeinM (d : Nat) (σ : S8) (c i : Int32) {nm nc a : Nat} (hR : R8 σ nm nc) (ha : σ.1 62 = nI a) (h40 : a ≤ 40) :
    M8 mX8_takein (d + 3) [.int c, .int i] σ (if idx c nc && takB (σ.2.1 59) c.toNatClampNeg i then σ.2.1 59 (18 + c.toNatClampNeg) - i else -1) (if idx c nc && takB (σ.2.1 59) c.toNatClampNeg i then setN σ a (takV (σ.2.1 59) c.toNatClampNeg i) else σ) := by
  have h6 := hR.2.2.2.1
  have go : ∀ {r σ1}, _ → Tw8 mX8_takein (d + 3) [.int c, .int i] σ r σ1 := fun h => Tw8.ofR [.int c, .int i] (by decide) (fun _ => rfl) (fun _ _ => Nat.le_of_ble_eq_true rfl) (g8_takein_0 ⟨_, _, isCoatT8 d _ c hR, h⟩)
  cases h1 : idx c nc
  · exact ⟨_, go ⟨fun _ => ⟨rfl, rfl⟩, fun q => absurd (bi_f h1) q⟩, PK.rf⟩
  obtain ⟨c', hc, ec⟩ := idx_of h1 (by omega)
  have e24 : (24 + c).toNatClampNeg = 24 + c' := by rw [ec, n24]; exact cl (by omega)
  have e18 : (18 + c).toNatClampNeg = 18 + c' := by rw [ec, n18]; exact cl (by omega)
  have ec' : c.toNatClampNeg = c' := by rw [ec]; exact cl (by omega)
  have b24 : vp_in (24 + c) 39 := by rw [ec, n24]; exact vin (by omega) (by decide)
  have b18 : vp_in (18 + c) 39 := by rw [ec, n18]; exact vin (by omega) (by decide)
  rw [ec']
  unfold takB
  by_cases h2 : s8_isIn i 1 (σ.2.1 59 (18 + c')) = 0
  · rw [decide_eq_false (fun q => q h2)]
    exact ⟨_, go ⟨fun q => absurd q (bi_t h1), fun _ => ⟨b18, fun _ => ⟨rfl, rfl⟩, fun q => absurd (by rw [e18]; exact h2) q⟩⟩, PK.rf⟩
  rw [decide_eq_true h2]
  by_cases h3 : σ.2.1 59 (24 + c') + i ≤ 99
  · rw [decide_eq_true h3]
    refine ⟨_, go ⟨fun q => absurd q (bi_t h1), fun _ => ⟨b18, fun q => absurd (by rw [e18] at q; exact q) h2, fun _ => ⟨b24, fun _ => ⟨_, actT8 d _ a ha h40, ?_, rfl⟩, fun q => absurd (by rw [e24]; exact h3) q⟩⟩⟩, ?_⟩
    · rw [e24, e18, actS_59, upd_s, upd_n (by omega)]
      rfl
    · rw [e24, e18, actS_59, upd_n (show 18 + c' ≠ 24 + c' by omega)]
      exact PK.rf
  · rw [decide_eq_false h3]
    exact ⟨_, go ⟨fun q => absurd q (bi_t h1), fun _ => ⟨b18, fun q => absurd (by rw [e18] at q; exact q) h2, fun _ => ⟨b24, fun q => absurd (by rw [e24] at q; exact q) h3, fun _ => ⟨rfl, rfl⟩⟩⟩⟩, PK.rf⟩
theorem hemM (d : Nat) (σ : S8) (c i : Int32) {nm nc a : Nat} (hR : R8 σ nm nc) (ha : σ.1 62 = nI a) (h40 : a ≤ 40) :
    M8 mX8_hem (d + 3) [.int c, .int i] σ (if idx c nc && decide (¬ s8_isIn i 1 (σ.2.1 59 (12 + c.toNatClampNeg)) = 0) then σ.2.1 59 (12 + c.toNatClampNeg) - i else -1) (if idx c nc && decide (¬ s8_isIn i 1 (σ.2.1 59 (12 + c.toNatClampNeg)) = 0) then setN σ a (upd (σ.2.1 59) (12 + c.toNatClampNeg) (σ.2.1 59 (12 + c.toNatClampNeg) - i)) else σ) := by
  have h6 := hR.2.2.2.1
  have go : ∀ {r σ1}, _ → Tw8 mX8_hem (d + 3) [.int c, .int i] σ r σ1 := fun h => Tw8.ofR [.int c, .int i] (by decide) (fun _ => rfl) (fun _ _ => Nat.le_of_ble_eq_true rfl) (g8_hem_0 ⟨_, _, isCoatT8 d _ c hR, h⟩)
  cases h1 : idx c nc
  · exact ⟨_, go ⟨fun _ => ⟨rfl, rfl⟩, fun q => absurd (bi_f h1) q⟩, PK.rf⟩
  obtain ⟨c', hc, ec⟩ := idx_of h1 (by omega)
  have e12 : (12 + c).toNatClampNeg = 12 + c' := by rw [ec, n12]; exact cl (by omega)
  have ec' : c.toNatClampNeg = c' := by rw [ec]; exact cl (by omega)
  have b12 : vp_in (12 + c) 39 := by rw [ec, n12]; exact vin (by omega) (by decide)
  rw [ec']
  by_cases h2 : s8_isIn i 1 (σ.2.1 59 (12 + c')) = 0
  · rw [decide_eq_false (fun q => q h2)]
    exact ⟨_, go ⟨fun q => absurd q (bi_t h1), fun _ => ⟨b12, fun q => absurd (by rw [e12]; exact h2) q, fun _ => ⟨rfl, rfl⟩⟩⟩, PK.rf⟩
  · rw [decide_eq_true h2]
    refine ⟨_, go ⟨fun q => absurd q (bi_t h1), fun _ => ⟨b12, fun _ => ⟨_, actT8 d _ a ha h40, ?_, rfl⟩, fun q => absurd (by rw [e12] at q; exact q) h2⟩⟩, ?_⟩
    · rw [e12, actS_59, upd_s]
      rfl
    · rw [e12, actS_59]
      exact PK.rf
def turV (v : Nat → Int32) (c : Nat) : Nat → Int32 := upd (upd v (30 + c) 0) 36 (v 36 ||| (1 <<< (nI c &&& 31)))
theorem turnM (d : Nat) (σ : S8) (c : Int32) {nm nc a : Nat} (hR : R8 σ nm nc) (ha : σ.1 62 = nI a) (h40 : a ≤ 40) :
    M8 mX8_turn (d + 3) [.int c] σ (if idx c nc && !hasB (σ.2.1 59 36) c.toNatClampNeg then σ.2.1 59 (30 + c.toNatClampNeg) else -1) (if idx c nc && !hasB (σ.2.1 59 36) c.toNatClampNeg then setN σ a (turV (σ.2.1 59) c.toNatClampNeg) else σ) := by
  have h6 := hR.2.2.2.1
  have go : ∀ {r σ1}, _ → Tw8 mX8_turn (d + 3) [.int c] σ r σ1 := fun h => Tw8.ofR [.int c, U_] (by decide) (fun _ => rfl) (fun _ _ => Nat.le_of_ble_eq_true rfl) (g8_turn_0 ⟨_, _, isCoatT8 d _ c hR, h⟩)
  cases h1 : idx c nc
  · exact ⟨_, go ⟨fun _ => ⟨rfl, rfl⟩, fun q => absurd (bi_f h1) q⟩, PK.rf⟩
  obtain ⟨c', hc, ec⟩ := idx_of h1 (by omega)
  have e30 : (30 + c).toNatClampNeg = 30 + c' := by rw [ec, n30]; exact cl (by omega)
  have ec' : c.toNatClampNeg = c' := by rw [ec]; exact cl (by omega)
  have b30 : vp_in (30 + c) 39 := by rw [ec, n30]; exact vin (by omega) (by decide)
  rw [ec']
  by_cases h2 : ((σ.2.1 59 36 >>> (c &&& 31)) &&& 1) = 1
  · have hb : hasB (σ.2.1 59 36) c' = true := by unfold hasB; rw [← ec]; exact decide_eq_true h2
    rw [hb]
    exact ⟨_, go ⟨fun q => absurd q (bi_t h1), fun _ => ⟨fun q => absurd h2 q, fun _ => ⟨rfl, rfl⟩⟩⟩, PK.rf⟩
  · have hb : hasB (σ.2.1 59 36) c' = false := by unfold hasB; rw [← ec]; exact decide_eq_false h2
    rw [hb]
    refine ⟨_, go ⟨fun q => absurd q (bi_t h1), fun _ => ⟨fun _ => ⟨_, actT8 d _ a ha h40, b30, ?_, rfl⟩, fun q => absurd q h2⟩⟩, ?_⟩
    · rw [e30, actS_59]
      rfl
    · rw [e30, actS_59, upd_n (show 36 ≠ 30 + c' by omega), ec]
      exact PK.rf
