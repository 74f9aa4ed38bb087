/-! the twin's public members: the colours of the buttons -/
set_option maxRecDepth 100000
def nearS (σ : S8) (m o : Nat) : Bool := decide (¬ σ.1 52 < s8_plain (σ.2.1 34 m - σ.2.1 34 o))
theorem areTakenT8 (d : Nat) (σ : S8) {m o : Nat} (hm : m < 6) (ho : o < 6) : Tw8 mX8_areTaken (d + 2) [.int (nI m), .int (nI o)] σ (some (.int (bi (nearS σ m o)))) σ := by
  refine Tw8.ofR [.int (nI m), .int (nI o)] (by decide) (fun _ => rfl) (fun _ _ => Nat.le_of_ble_eq_true rfl) (g8_areTaken_0 ⟨vin hm (by decide), vin ho (by decide), ?_, rfl⟩)
  rw [cl (by omega), cl (by omega), bi_ifn]
  rfl
def coI (D : Nat → Nat) (nr : Nat → Nat → Bool) (m : Nat) (b : Bool) : Nat → Bool := acc8 (fun o ok => ok && !(decide (D m = D o) && nr m o)) b
theorem coI_s (D : Nat → Nat) (nr : Nat → Nat → Bool) (m : Nat) (b : Bool) (o : Nat) : coI D nr m b (o + 1) = (coI D nr m b o && !(decide (D m = D o) && nr m o)) := rfl
def coE (D : Nat → Nat) (nr : Nat → Nat → Bool) : Nat → Bool := acc8 (fun m b => coI D nr m b m) true
theorem coE_s (D : Nat → Nat) (nr : Nat → Nat → Bool) (m : Nat) : coE D nr (m + 1) = coI D nr m (coE D nr m) m := rfl
abbrev colD (n nm code : Nat) : Nat → Nat := fun m => dg n code (nm - 1 - m)
theorem nearS_kp {A : List Nat} {σ τ : S8} (k : kp A σ τ) (h : 34 ∉ A) : nearS τ = nearS σ := by
  unfold nearS
  rw [k.1, k.2.2 34 h]
theorem layColoursT8 (d : Nat) (σ : S8) {n code nm : Nat} (hn0 : 0 < n) (hn6 : n ≤ 6) (hcd : code < 1000000) (h48 : σ.1 48 = nI nm) (h6 : nm ≤ 6) :
    ∃ σ1, Tw8 mX8_layColours (d + 3) [.int (nI n), .int (nI code)] σ (some (.int (bi (coE (colD n nm code) (nearS σ) nm)))) σ1 ∧ kp [65] σ σ1 ∧ ∀ m, m < nm → σ1.2.1 65 m = nI (dg n code (nm - 1 - m)) := by
  have hD : ∀ k, dg n code k < n := fun k => dg_lt hn0 code k
  obtain ⟨_, τ, ⟨a1, a2⟩, a3⟩ := iter8 (A := Unit) (fun k _ τ r σ2 => Rn8 mX8_layColours (d + 3) 10 [.int (nI n), .int (nI code), .int (nI (code / n ^ k)), .int (dn nm k), U_, U_] (fun _ => []) τ r σ2) (fun k _ τ => kp [65] σ τ ∧ ∀ j, j < k → τ.2.1 65 (nm - 1 - j) = nI (dg n code j)) nm (by
    rintro k ⟨⟩ τ hk ⟨p1, p2⟩
    have hq : code / n ^ k < 1000000 := Nat.lt_of_le_of_lt (Nat.div_le_self _ _) hcd
    have er : nI (code / n ^ k) - nI (code / n ^ k) / nI n * nI n = nI (dg n code k) := pk_rem (by omega) hn0 (by omega)
    have ed : nI (code / n ^ k) / nI n = nI (code / n ^ (k + 1)) := by
      rw [pk_div (by omega) hn0 (by omega), Nat.div_div_eq_div_mul, Nat.pow_succ]
    have dsn := dn_s h6 hk
    rw [dn_p hk] at dsn
    have hz : ¬ nI n = 0 := nI_ne0 hn0 (by omega)
    refine ⟨(), (τ.1, upA τ.2.1 65 (upd (τ.2.1 65) (nm - 1 - k) (nI (dg n code k))), τ.2.2.1, τ.2.2.2), ⟨kp1 p1 (by decide), fun j hj => ?_⟩, fun r σ2 h => ?_⟩
    · show upA τ.2.1 65 (upd (τ.2.1 65) (nm - 1 - k) (nI (dg n code k))) 65 (nm - 1 - j) = _
      rw [upA_s]
      by_cases e : j = k
      · rw [e, upd_s]
      · rw [upd_n (by omega)]; exact p2 j (by omega)
    · rw [dn_p hk]
      refine g8_layColours_10 ⟨fun q => absurd q (nI_nneg (by omega)), fun _ => ⟨hz, vin (by omega) (by decide), hz, ?_⟩⟩
      rw [cl (by omega), er, ed, dsn]
      exact h) 0 () σ (Nat.zero_le _) ⟨kp.rf, fun j hj => absurd hj (by omega)⟩
  have hrow : ∀ m, m < nm → τ.2.1 65 m = nI (colD n nm code m) := fun m hm => by
    have := a2 (nm - 1 - m) (by omega)
    rwa [show nm - 1 - (nm - 1 - m) = m by omega] at this
  have t48 : τ.1 48 = nI nm := by rw [a1.1]; exact h48
  have en := nearS_kp a1 (by decide)
  obtain ⟨b, τ1, ⟨b1, b2⟩, b3⟩ := iter8 (A := Bool) (fun m b τ1 r σ2 => Rn8 mX8_layColours (d + 3) 41 [.int (nI n), .int (nI code), .int (nI (code / n ^ nm)), .int (bi b), .int (nI m), U_] (fun _ => []) τ1 r σ2) (fun m b τ1 => b = coE (colD n nm code) (nearS σ) m ∧ τ1 = τ) nm (by
    rintro m b τ1 hm ⟨q0, rfl⟩
    obtain ⟨b', τ2, ⟨c1, c2⟩, c3⟩ := iter8 (A := Bool) (fun o b' τ2 r σ2 => Rn8 mX8_layColours (d + 3) 53 [.int (nI n), .int (nI code), .int (nI (code / n ^ nm)), .int (bi b'), .int (nI m), .int (nI o)] (fun _ => []) τ2 r σ2) (fun o b' τ2 => b' = coI (colD n nm code) (nearS σ) m b o ∧ τ2 = τ1) m (by
      rintro o b' τ2 ho ⟨z0, rfl⟩
      refine ⟨_, _, ⟨rfl, rfl⟩, fun r σ2 h => ?_⟩
      rw [coI_s, ← z0] at h
      have tt := areTakenT8 d τ2 (m := m) (o := o) (by omega) (by omega)
      rw [en] at tt
      have hDm := hD (nm - 1 - m)
      have hDo := hD (nm - 1 - o)
      refine g8_layColours_53 ⟨fun q => absurd q (nI_ge ho (by omega)), fun _ => ⟨fun q => ?_, fun q => ⟨vin (by omega) (by decide), vin (by omega) (by decide), fun y => ?_, fun y => ⟨_, _, tt, ?_⟩⟩⟩⟩
      · rw [bi_0] at q
        rw [q, Bool.false_and] at h
        rw [nI_1]; exact h
      · rw [bi_0, Bool.not_eq_false] at q
        rw [cl (by omega), cl (by omega), hrow m hm, hrow o (by omega)] at y
        rw [q, decide_eq_false (fun e => y (by rw [e])), Bool.false_and] at h
        rw [nI_1]; exact h
      · rw [bi_0, Bool.not_eq_false] at q
        rw [cl (by omega), cl (by omega), hrow m hm, hrow o (by omega)] at y
        have e : colD n nm code m = colD n nm code o := by
          by_cases e : colD n nm code m = colD n nm code o
          · exact e
          · exact absurd y (nI_ne (Nat.lt_of_lt_of_le hDm (by omega)) (Nat.lt_of_lt_of_le hDo (by omega)) e)
        rw [q, decide_eq_true e, Bool.true_and, Bool.true_and] at h
        rw [nI_1]
        cases hx : nearS σ m o
        · rw [hx] at h; exact h
        · rw [hx] at h; exact h) 0 b τ1 (Nat.zero_le _) ⟨rfl, rfl⟩
    subst c2
    refine ⟨b', τ2, ⟨by rw [coE_s, ← q0]; exact c1, rfl⟩, fun r σ2 h => ?_⟩
    exact g8_layColours_41 ⟨fun q => absurd q (by rw [t48]; exact nI_ge hm (by omega)), fun _ => c3 _ _ (g8_layColours_53 ⟨fun _ => by rw [nI_1]; exact h, fun q => absurd (nI_le (Nat.le_refl _) (by omega)) q⟩)⟩) 0 true τ (Nat.zero_le _) ⟨rfl, rfl⟩
  subst b2
  subst b1
  refine ⟨τ1, Tw8.ofR [.int (nI n), .int (nI code), U_, U_, U_, U_] (by decide) (fun _ => rfl) (fun _ _ => Nat.le_of_ble_eq_true rfl) (g8_layColours_0 ?_), a1, hrow⟩
  have h := a3 _ _ (g8_layColours_10 ⟨fun _ => b3 _ _ (g8_layColours_41 ⟨fun _ => ⟨isB_bi _, rfl, rfl⟩, fun q => absurd (by rw [t48]; exact nI_le (Nat.le_refl _) (by omega)) q⟩), fun q => absurd (by rw [dn_e]; decide) q⟩)
  rw [h48, dn_0 ⟨nm, by omega⟩]
  rw [Nat.pow_zero, Nat.div_one] at h
  exact h
/-- the first code of n colours that will do -/
def btI (nr : Nat → Nat → Bool) (nm n : Nat) : Nat → Option Nat := acc8 (fun code s => match s with | some c => some c | none => if coE (colD n nm code) nr nm then some code else none) none
theorem btI_n {nr : Nat → Nat → Bool} {nm n code : Nat} (h : btI nr nm n code = none) : btI nr nm n (code + 1) = if coE (colD n nm code) nr nm then some code else none := by
  show (match btI nr nm n code with | some c => some c | none => if coE (colD n nm code) nr nm then some code else none) = _
  rw [h]
theorem btI_p {nr : Nat → Nat → Bool} {nm n j c : Nat} (h : btI nr nm n j = some c) : ∀ i, btI nr nm n (j + i) = some c := by
  intro i
  induction i with
  | zero => exact h
  | succ i ih =>
    show (match btI nr nm n (j + i) with | some c => some c | none => if coE (colD n nm (j + i)) nr nm then some (j + i) else none) = _
    rw [ih]
/-- the fewest colours, and the first code of so many -/
def btO (nr : Nat → Nat → Bool) (nm : Nat) : Nat → Option (Nat × Nat) := acc8 (fun k s => match s with | some p => some p | none => (btI nr nm (k + 1) ((k + 1) ^ nm)).map (fun c => (k + 1, c))) none
theorem btO_n {nr : Nat → Nat → Bool} {nm k : Nat} (h : btO nr nm k = none) : btO nr nm (k + 1) = (btI nr nm (k + 1) ((k + 1) ^ nm)).map (fun c => (k + 1, c)) := by
  show (match btO nr nm k with | some p => some p | none => (btI nr nm (k + 1) ((k + 1) ^ nm)).map (fun c => (k + 1, c))) = _
  rw [h]
theorem btO_p {nr : Nat → Nat → Bool} {nm j : Nat} {c : Nat × Nat} (h : btO nr nm j = some c) : ∀ i, btO nr nm (j + i) = some c := by
  intro i
  induction i with
  | zero => exact h
  | succ i ih =>
    show (match btO nr nm (j + i) with | some p => some p | none => (btI nr nm (j + i + 1) ((j + i + 1) ^ nm)).map (fun c => (j + i + 1, c))) = _
    rw [ih]
def btR (nm : Nat) (L : Nat → Int32) : Option (Nat × Nat) → Int32 × (Nat → Int32)
  | none => (0, L)
  | some p => (nI p.1, cpk (fun m => nI (dg p.1 p.2 (nm - 1 - m))) L nm)
theorem buttonsM (d : Nat) (σ : S8) {nm nc : Nat} (hR : R8 σ nm nc) : M8 mX8_buttons (d + 4) [] σ (btR nm (σ.2.1 64) (btO (nearS σ) nm nm)).1 (upd σ.1 67 (nI nm), upA σ.2.1 64 (btR nm (σ.2.1 64) (btO (nearS σ) nm nm)).2, σ.2.2) := by
  have h6 := hR.2.1
  have l0 : kL σ (nI nm) (σ.2.1 64) (upd σ.1 67 (σ.1 48), σ.2.1, σ.2.2.1, σ.2.2.2) := ⟨(upd_s (f := σ.1) (k := 67) (x := σ.1 48)).trans hR.1, rfl, fun j hj => upd_n hj, rfl, fun _ _ => rfl⟩
  have go : ∀ {r σ1}, _ → Tw8 mX8_buttons (d + 4) [] σ r σ1 := fun h => Tw8.ofR [U_, U_, U_] (by decide) (fun _ => rfl) (fun _ _ => Nat.le_of_ble_eq_true rfl) (g8_buttons_0 h)
  have f48 : ∀ {τ : S8} {L : Nat → Int32}, kL σ (nI nm) L τ → τ.1 48 = nI nm := fun h => by rw [h.2.2.1 48 (by decide)]; exact hR.1
  have fnr : ∀ {τ : S8} {L : Nat → Int32}, kL σ (nI nm) L τ → nearS τ = nearS σ := fun h => by
    unfold nearS
    rw [h.2.2.1 52 (by decide), h.2.2.2.2 34 (by decide)]
  rcases iter8e (A := Unit) (fun k _ τ r σ2 => Rn8 mX8_buttons (d + 4) 10 [.int (nI (k + 1)), U_, U_] (fun _ => []) τ r σ2) (fun k _ τ => btO (nearS σ) nm k = none ∧ kL σ (nI nm) (σ.2.1 64) τ) (fun r σ2 => ∃ p, btO (nearS σ) nm nm = some p ∧ r = some (.int (nI p.1)) ∧ kL σ (nI nm) (cpk (fun m => nI (dg p.1 p.2 (nm - 1 - m))) (σ.2.1 64) nm) σ2) nm (by
    rintro k ⟨⟩ τ hk ⟨p0, p1⟩
    have hP := pow76 (b := k + 1) (n := nm) (by omega) h6
    rcases iter8e (A := Unit) (fun code _ τ r σ2 => Rn8 mX8_buttons (d + 4) 20 [.int (nI (k + 1)), .int (nI code), U_] (fun _ => []) τ r σ2) (fun code _ τ => btI (nearS σ) nm (k + 1) code = none ∧ kL σ (nI nm) (σ.2.1 64) τ) (fun r σ2 => ∃ p, btO (nearS σ) nm nm = some p ∧ r = some (.int (nI p.1)) ∧ kL σ (nI nm) (cpk (fun m => nI (dg p.1 p.2 (nm - 1 - m))) (σ.2.1 64) nm) σ2) ((k + 1) ^ nm) (by
      rintro code ⟨⟩ τ1 hcd ⟨y0, y1⟩
      have hpw : s8_power (nI (k + 1)) (τ1.1 48) = nI ((k + 1) ^ nm) := by
        rw [f48 y1]
        exact power_nI _ _ (by omega)
      have hex : ¬ s8_power (nI (k + 1)) (τ1.1 48) ≤ nI code := by rw [hpw]; exact nI_ge hcd (by omega)
      obtain ⟨τ2, x1, x2, x3⟩ := layColoursT8 d τ1 (n := k + 1) (code := code) (nm := nm) (by omega) (by omega) (by omega) (f48 y1) h6
      rw [fnr y1] at x1
      have k2 : kL σ (nI nm) (σ.2.1 64) τ2 := y1.kp x2 (by decide)
      cases hco : coE (colD (k + 1) nm code) (nearS σ) nm
      · refine Or.inl ⟨(), τ2, ⟨by rw [btI_n y0, hco]; rfl, k2⟩, fun r σ2 h => ?_⟩
        rw [hco] at x1
        exact g8_buttons_20 ⟨fun q => absurd q hex, fun _ => ⟨_, _, x1, fun q => absurd rfl q, fun _ => by rw [nI_1]; exact h⟩⟩
      · have e1 : btI (nearS σ) nm (k + 1) (code + 1) = some code := by rw [btI_n y0, hco]; rfl
        have e2 : btI (nearS σ) nm (k + 1) ((k + 1) ^ nm) = some code := by
          have := btI_p e1 ((k + 1) ^ nm - (code + 1))
          rwa [show code + 1 + ((k + 1) ^ nm - (code + 1)) = (k + 1) ^ nm by omega] at this
        have e3 : btO (nearS σ) nm (k + 1) = some (k + 1, code) := by rw [btO_n p0, e2]; rfl
        have e4 : btO (nearS σ) nm nm = some (k + 1, code) := by
          have := btO_p e3 (nm - (k + 1))
          rwa [show k + 1 + (nm - (k + 1)) = nm by omega] at this
        rw [hco] at x1
        have key2 : ∃ u : Unit, ∃ τ3 : S8, (kL σ (nI nm) (cpk (fun m => nI (dg (k + 1) code (nm - 1 - m))) (σ.2.1 64) nm) τ3 ∧ τ3.2.1 65 = τ2.2.1 65) ∧ ∀ r σ2, Rn8 mX8_buttons (d + 4) 46 [.int (nI (k + 1)), .int (nI code), .int (nI nm)] (fun _ => []) τ3 r σ2 → Rn8 mX8_buttons (d + 4) 46 [.int (nI (k + 1)), .int (nI code), .int (nI 0)] (fun _ => []) τ2 r σ2 :=
          iter8 (A := Unit) (fun i _ τ r σ2 => Rn8 mX8_buttons (d + 4) 46 [.int (nI (k + 1)), .int (nI code), .int (nI i)] (fun _ => []) τ r σ2) (fun i _ τ3 => kL σ (nI nm) (cpk (fun m => nI (dg (k + 1) code (nm - 1 - m))) (σ.2.1 64) i) τ3 ∧ τ3.2.1 65 = τ2.2.1 65) nm (by
          rintro i ⟨⟩ τ3 hi ⟨w1, w2⟩
          have ci : (nI i).toNatClampNeg = i := cl (by omega)
          refine ⟨(), (τ3.1, upA τ3.2.1 64 (cpk (fun m => nI (dg (k + 1) code (nm - 1 - m))) (σ.2.1 64) (i + 1)), τ3.2.2.1, τ3.2.2.2), ⟨w1.st, (upA_n (f := τ3.2.1) (j := 64) (g := cpk (fun m => nI (dg (k + 1) code (nm - 1 - m))) (σ.2.1 64) (i + 1)) (by decide)).trans w2⟩, fun r σ2 h => g8_buttons_46 ⟨fun q => absurd q (by rw [f48 w1]; exact nI_ge hi (by omega)), fun _ => ⟨vin (by omega) (by decide), ?_⟩⟩⟩
          rw [ci, w1.2.1, w2, x3 i hi, cpk_s (fun m => nI (dg (k + 1) code (nm - 1 - m))), nI_1]
          exact h) 0 () τ2 (Nat.zero_le _) ⟨by rw [cpk_0]; exact k2, rfl⟩
        obtain ⟨_, τ3, ⟨w1, w2⟩, w3⟩ := key2
        refine Or.inr ⟨some (.int (nI (k + 1))), τ3, g8_buttons_20 ⟨fun q => absurd q hex, fun _ => ⟨_, _, x1, fun _ => w3 _ _ (g8_buttons_46 ⟨fun _ => ⟨rfl, rfl⟩, fun q => absurd (by rw [f48 w1]; exact nI_le (Nat.le_refl _) (by omega)) q⟩), fun q => absurd q (by decide)⟩⟩, (k + 1, code), e4, rfl, w1⟩) 0 () τ (Nat.zero_le _) ⟨rfl, p1⟩ with ⟨_, τ1, ⟨y0, y1⟩, y3⟩ | ⟨r, σ2, s1, s2⟩
    · refine Or.inl ⟨(), τ1, ⟨by rw [btO_n p0, y0]; rfl, y1⟩, fun r σ2 h => ?_⟩
      have hpw : s8_power (nI (k + 1)) (τ1.1 48) = nI ((k + 1) ^ nm) := by
        rw [f48 y1]
        exact power_nI _ _ (by omega)
      exact g8_buttons_10 ⟨fun q => absurd q (by rw [f48 p1, i32_nlt]; exact nI_le (by omega) (by omega)), fun _ => y3 _ _ (g8_buttons_20 ⟨fun _ => by rw [nI_1]; exact h, fun q => absurd (by rw [hpw]; exact nI_le (Nat.le_refl _) (by omega)) q⟩)⟩
    · exact Or.inr ⟨r, σ2, g8_buttons_10 ⟨fun q => absurd q (by rw [f48 p1, i32_nlt]; exact nI_le (by omega) (by omega)), fun _ => s1⟩, s2⟩) 0 () (upd σ.1 67 (σ.1 48), σ.2.1, σ.2.2.1, σ.2.2.2) (Nat.zero_le _) ⟨rfl, l0⟩ with ⟨_, τ, ⟨p0, p1⟩, p3⟩ | ⟨r, σ2, s1, p, e, rfl, s3⟩
  · rw [p0]
    have hlt : nI nm < nI (nm + 1) := by
      have := nI_ge (a := nm) (b := nm + 1) (by omega) (by omega)
      rw [← i32_nlt] at this
      exact Classical.not_not.mp this
    exact ⟨τ, go (p3 _ _ (g8_buttons_10 ⟨fun _ => ⟨rfl, rfl⟩, fun q => absurd (by rw [f48 p1]; exact hlt) q⟩)), p1.PK⟩
  · rw [e]
    exact ⟨σ2, go s1, s3.PK⟩
