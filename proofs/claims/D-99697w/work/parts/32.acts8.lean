/-! the twin: rain, the beginning, acts kept and turned back -/
set_option maxRecDepth 100000
theorem Rn8.pre {M : MD} {d pc : Nat} {ls : List Value} {st : Nat → List Value} {σ σ' σ1 : S8} {r : Option Value} (e : eq8 σ' σ) (h : Rn8 M d pc ls st σ r σ1) : Rn8 M d pc ls st σ' r σ1 := by
  intro G l T hp hK hT p e' s m args below meth cd mc ms H locs cells slots la C g S L h1 h2
  exact h G l T hp hK hT p e' s m args below meth cd mc ms H locs cells slots la C (eq8_P e g) S L h1 h2
theorem upd_upd (f : Nat → Int32) (k : Nat) (x y : Int32) : upd (upd f k x) k y = upd f k y := by
  funext j
  by_cases h : j = k
  · subst h; rw [upd_s, upd_s]
  · rw [upd_n h, upd_n h, upd_n h]
/-- the seed's next -/
def sd8 (x : Int32) : Int32 := ((x * 137) + 71) - ((x * 137) + 71) / 1000 * 1000
def rn8 (rain x : Int32) : Bool := decide (¬ rain ≤ x - x / 100 * 100)
theorem drawRainT8 (d : Nat) (σ : S8) : Tw8 mX8_drawRain (d + 1) [] σ (some (.int (bi (rn8 (σ.1 53) (sd8 (σ.2.1 60 38)))))) (stA σ 60 (upd (σ.2.1 60) 38 (sd8 (σ.2.1 60 38)))) := by
  refine Tw8.ofR [] (by decide) (fun _ => rfl) (fun _ _ => Nat.le_of_ble_eq_true rfl) (g8_drawRain_0 ⟨?_, rfl⟩)
  rw [bi_ifn]
  rfl
/-- all as told -/
def bg1 (wide : Nat → Int32) (nm : Nat) : Nat → Int32 := acc8 (fun m v => upd (upd v m (wide m)) (6 + m) (-1)) (fun _ => 0) nm
def begV (wide ct cw se wo : Nat → Int32) (nm nc : Nat) : Nat → Int32 := acc8 (fun c v => upd (upd (upd (upd v (12 + c) (ct c)) (18 + c) (cw c)) (24 + c) (se c)) (30 + c) (wo c)) (bg1 wide nm) nc
abbrev begS (σ : S8) (nm nc : Nat) : Nat → Int32 := begV (σ.2.1 35) (σ.2.1 37) (σ.2.1 38) (σ.2.1 39) (σ.2.1 40) nm nc
theorem beginT8 (d : Nat) (σ : S8) {nm nc : Nat} (hm : σ.1 48 = nI nm) (h6 : nm ≤ 6) (hc : σ.1 49 = nI nc) (hc6 : nc ≤ 6) : Tw8 mX8_begin (d + 1) [] σ none (stA σ 60 (begS σ nm nc)) := by
  obtain ⟨_, τ1, ⟨a1, a2⟩, a3⟩ := iter8 (A := Unit) (fun k _ τ r σ1 => Rn8 mX8_begin (d + 1) 2 [.int (nI k)] (fun _ => []) τ r σ1) (fun k _ τ => kp [60] σ τ ∧ ∀ j, j < k → τ.2.1 60 j = 0) 39 (by
    rintro k ⟨⟩ τ hk ⟨q1, q2⟩
    refine ⟨(), _, ⟨kp1 (j := 60) (g := upd (τ.2.1 60) k 0) q1 (by decide), fun j hj => ?_⟩, fun r σ1 h => ?_⟩
    · show upA τ.2.1 60 (upd (τ.2.1 60) k 0) 60 j = 0
      rw [upA_s]
      by_cases e : j = k
      · subst e; rw [upd_s]
      · rw [upd_n e]; exact q2 j (by omega)
    · refine g8_begin_2 ⟨fun q => absurd q (nI_ge (b := 39) hk (by decide)), fun _ => ⟨vin hk (by decide), ?_⟩⟩
      rw [nI_1, cl (by omega)]
      exact h) 0 () σ (Nat.zero_le _) ⟨kp.rf, fun j hj => absurd hj (by omega)⟩
  obtain ⟨_, τ2, ⟨b1, b2⟩, b3⟩ := iter8 (A := Unit) (fun k _ τ r σ1 => Rn8 mX8_begin (d + 1) 23 [.int (nI k)] (fun _ => []) τ r σ1) (fun k _ τ => kp [60] σ τ ∧ τ.2.1 60 = bg1 (σ.2.1 35) k) nm (by
    rintro k ⟨⟩ τ hk ⟨q1, q2⟩
    refine ⟨(), _, ⟨kp1 (j := 60) (g := upd (upd (τ.2.1 60) k (σ.2.1 35 k)) (6 + k) (-1)) q1 (by decide), ?_⟩, fun r σ1 h => ?_⟩
    · show upA τ.2.1 60 (upd (upd (τ.2.1 60) k (σ.2.1 35 k)) (6 + k) (-1)) 60 = _
      rw [upA_s, q2]
      rfl
    · refine g8_begin_23 ⟨fun q => absurd q (by rw [q1.1, hm]; exact nI_ge hk (by omega)), fun _ => ⟨vin (by omega) (by decide), vin (by omega) (by decide), by rw [n6]; exact vin (by omega) (by decide), ?_⟩⟩
      rw [nI_1, n6, cl (by omega), cl (by omega), q1.2.2 35 (by decide)]
      exact h) 0 () (stA σ 60 (fun _ => 0)) (Nat.zero_le _) ⟨stA_kp (by decide), stA_s⟩
  obtain ⟨_, τ3, ⟨c1, c2⟩, c3⟩ := iter8 (A := Unit) (fun k _ τ r σ1 => Rn8 mX8_begin (d + 1) 61 [.int (nI k)] (fun _ => []) τ r σ1) (fun k _ τ => kp [60] σ τ ∧ τ.2.1 60 = begS σ nm k) nc (by
    rintro k ⟨⟩ τ hk ⟨q1, q2⟩
    have e1 : ((30 : Int32) + nI k).toNatClampNeg = 30 + k := by rw [n30]; exact cl (by omega)
    have e2 : ((12 : Int32) + nI k).toNatClampNeg = 12 + k := by rw [n12]; exact cl (by omega)
    have e3 : ((18 : Int32) + nI k).toNatClampNeg = 18 + k := by rw [n18]; exact cl (by omega)
    have e4 : ((24 : Int32) + nI k).toNatClampNeg = 24 + k := by rw [n24]; exact cl (by omega)
    refine ⟨(), _, ⟨kp1 (j := 60) (g := upd (upd (upd (upd (τ.2.1 60) (12 + k) (σ.2.1 37 k)) (18 + k) (σ.2.1 38 k)) (24 + k) (σ.2.1 39 k)) (30 + k) (σ.2.1 40 k)) q1 (by decide), ?_⟩, fun r σ1 h => ?_⟩
    · show upA τ.2.1 60 (upd (upd (upd (upd (τ.2.1 60) (12 + k) (σ.2.1 37 k)) (18 + k) (σ.2.1 38 k)) (24 + k) (σ.2.1 39 k)) (30 + k) (σ.2.1 40 k)) 60 = _
      rw [upA_s, q2]
      rfl
    · refine g8_begin_61 ⟨fun q => absurd q (by rw [q1.1, hc]; exact nI_ge hk (by omega)), fun _ => ⟨vin (by omega) (by decide), by rw [n12]; exact vin (by omega) (by decide), by rw [n18]; exact vin (by omega) (by decide), by rw [n24]; exact vin (by omega) (by decide), by rw [n30]; exact vin (by omega) (by decide), ?_⟩⟩
      rw [nI_1, e1, e2, e3, e4, cl (by omega), q1.2.2 37 (by decide), q1.2.2 38 (by decide), q1.2.2 39 (by decide), q1.2.2 40 (by decide)]
      exact h) 0 () τ2 (Nat.zero_le _) ⟨b1, b2⟩
  have hz : Rn8 mX8_begin (d + 1) 23 [.int 0] (fun _ => []) τ1 none τ3 := by
    refine Rn8.pre (kp_eq8 a1 (g := fun _ => 0) (fun i hi => a2 i hi)) (b3 _ _ (g8_begin_23 ⟨fun _ => c3 _ _ (g8_begin_61 ⟨fun _ => ⟨rfl, rfl⟩, fun q => absurd (by rw [c1.1, hc]; exact nI_le (Nat.le_refl _) (by omega)) q⟩), fun q => absurd (by rw [b1.1, hm]; exact nI_le (Nat.le_refl _) (by omega)) q⟩))
  have h9 : Tw8 mX8_begin (d + 1) [] σ none τ3 := Tw8.ofR [U_] (by decide) (fun _ => rfl) (fun _ _ => Nat.le_of_ble_eq_true rfl) (g8_begin_0 (a3 _ _ (g8_begin_2 ⟨fun _ => hz, fun q => absurd (by decide) q⟩)))
  exact h9.post (kp_eq8 c1 (fun i _ => by rw [c2]))
/-- the row of acts with the vector v at place a -/
def putW (w v : Nat → Int32) (a : Nat) : Nat → Int32 := fun q => if 39 * a ≤ q ∧ q < 39 * a + 39 then v (q - 39 * a) else w q
def getW (w : Nat → Int32) (a : Nat) : Nat → Int32 := fun k => w (39 * a + k)
/-- without its first -/
def shW (w : Nat → Int32) : Nat → Int32 := fun q => if q < 1521 then w (39 + q) else w q
theorem n39 (a k : Nat) : ((39 : Int32) * nI a) + nI k = nI (39 * a + k) := by
  have : (39 : Int32) = nI 39 := rfl
  rw [this, pk_mul, nI_add]
/-- what an act keeps -/
def actA (a : Nat) : Nat := if a = 40 then 39 else a
def actW (w v : Nat → Int32) (a : Nat) : Nat → Int32 := if a = 40 then putW (shW w) v 39 else putW w v a
def actS (σ : S8) (a : Nat) : S8 := (upd (upd σ.1 62 (nI (actA a + 1))) 63 0, upA (upA σ.2.1 61 (actW (σ.2.1 61) (σ.2.1 59) a)) 60 (σ.2.1 59), σ.2.2)
theorem actPut (d : Nat) (σ : S8) (a : Nat) (ha : σ.1 62 = nI a) (h39 : a ≤ 39) : ∃ τ, eq8 τ (stA σ 61 (putW (σ.2.1 61) (σ.2.1 59) a)) ∧ ∀ r σ1, Rn8 mX8_act (d + 2) 51 [.int (nI 39)] (fun _ => []) τ r σ1 → Rn8 mX8_act (d + 2) 51 [.int 0] (fun _ => []) σ r σ1 := by
  obtain ⟨_, τ, ⟨a1, a2⟩, a3⟩ := iter8 (A := Unit) (fun k _ τ r σ1 => Rn8 mX8_act (d + 2) 51 [.int (nI k)] (fun _ => []) τ r σ1) (fun k _ τ => kp [61] σ τ ∧ ∀ q, τ.2.1 61 q = if 39 * a ≤ q ∧ q < 39 * a + k then σ.2.1 59 (q - 39 * a) else σ.2.1 61 q) 39 (by
    rintro k ⟨⟩ τ hk ⟨q1, q2⟩
    refine ⟨(), _, ⟨kp1 (j := 61) (g := upd (τ.2.1 61) (39 * a + k) (σ.2.1 59 k)) q1 (by decide), fun q => ?_⟩, fun r σ1 h => ?_⟩
    · show upA τ.2.1 61 (upd (τ.2.1 61) (39 * a + k) (σ.2.1 59 k)) 61 q = _
      rw [upA_s]
      by_cases e : q = 39 * a + k
      · subst e
        rw [upd_s, if_pos ⟨by omega, by omega⟩, Nat.add_sub_cancel_left]
      · rw [upd_n e, q2]
        by_cases h9 : 39 * a ≤ q ∧ q < 39 * a + k
        · rw [if_pos h9, if_pos ⟨h9.1, by omega⟩]
        · rw [if_neg h9, if_neg (fun z => h9 ⟨z.1, by omega⟩)]
    · refine g8_act_51 ⟨fun q => absurd q (nI_ge (b := 39) hk (by decide)), fun _ => ⟨vin hk (by decide), by rw [q1.1, ha, n39]; exact vin (by omega) (by decide), ?_⟩⟩
      rw [nI_1, q1.1, ha, n39, cl (by omega), cl (by omega), q1.2.2 59 (by decide), ← q1.1]
      exact h) 0 () σ (Nat.zero_le _) ⟨kp.rf, fun q => by rw [if_neg (by omega)]⟩
  exact ⟨τ, kp_eq8 a1 (fun i _ => a2 i), a3⟩
theorem actT8 (d : Nat) (σ : S8) (a : Nat) (ha : σ.1 62 = nI a) (h40 : a ≤ 40) : Tw8 mX8_act (d + 2) [] σ none (actS σ a) := by
  have fin : ∀ (ρ : S8) (b : Nat), ρ.1 62 = nI b → b ≤ 39 → Rn8 mX8_act (d + 2) 51 [.int 0] (fun _ => []) ρ none (upd (upd ρ.1 62 (nI (b + 1))) 63 0, upA (upA ρ.2.1 61 (putW (ρ.2.1 61) (ρ.2.1 59) b)) 60 (ρ.2.1 59), ρ.2.2) := by
    intro ρ b hb h39
    obtain ⟨τ, t1, t2⟩ := actPut d ρ b hb h39
    refine t2 _ _ (Rn8.pre t1 ?_)
    have hf := fillX d (upd (upd (stA ρ 61 (putW (ρ.2.1 61) (ρ.2.1 59) b)).1 62 ((stA ρ 61 (putW (ρ.2.1 61) (ρ.2.1 59) b)).1 62 + 1)) 63 0, (stA ρ 61 (putW (ρ.2.1 61) (ρ.2.1 59) b)).2.1, (stA ρ 61 (putW (ρ.2.1 61) (ρ.2.1 59) b)).2.2.1, (stA ρ 61 (putW (ρ.2.1 61) (ρ.2.1 59) b)).2.2.2)
    refine g8_act_51 ⟨fun _ => ⟨_, hf, rfl, ?_⟩, fun q => absurd (by decide) q⟩
    show _ = ((upd (upd ρ.1 62 (ρ.1 62 + 1)) 63 0, upA (upA ρ.2.1 61 (putW (ρ.2.1 61) (ρ.2.1 59) b)) 60 (upA ρ.2.1 61 (putW (ρ.2.1 61) (ρ.2.1 59) b) 59), ρ.2.2) : S8)
    rw [hb, nI_1, upA_n (by decide)]
  by_cases e : a = 40
  · subst e
    obtain ⟨_, τ, ⟨a1, a2⟩, a3⟩ := iter8 (A := Unit) (fun k _ τ r σ1 => Rn8 mX8_act (d + 2) 11 [.int (nI k)] (fun _ => []) τ r σ1) (fun k _ τ => kp [61] σ τ ∧ ∀ q, τ.2.1 61 q = if q < k then σ.2.1 61 (39 + q) else σ.2.1 61 q) 1521 (by
      rintro k ⟨⟩ τ hk ⟨q1, q2⟩
      have e39 : (39 : Int32) + nI k = nI (39 + k) := nI_add 39 k
      refine ⟨(), _, ⟨kp1 (j := 61) (g := upd (τ.2.1 61) k (τ.2.1 61 (39 + k))) q1 (by decide), fun q => ?_⟩, fun r σ1 h => ?_⟩
      · show upA τ.2.1 61 (upd (τ.2.1 61) k (τ.2.1 61 (39 + k))) 61 q = _
        rw [upA_s]
        by_cases e : q = k
        · subst e
          rw [upd_s, q2, if_neg (by omega), if_pos (by omega)]
        · rw [upd_n e, q2]
          by_cases h9 : q < k
          · rw [if_pos h9, if_pos (by omega)]
          · rw [if_neg h9, if_neg (by omega)]
      · refine g8_act_11 ⟨fun q => absurd q (nI_ge (b := 1521) hk (by decide)), fun _ => ⟨by rw [e39]; exact vin (by omega) (by decide), vin (by omega) (by decide), ?_⟩⟩
        rw [nI_1, e39, cl (by omega), cl (by omega)]
        exact h) 0 () σ (Nat.zero_le _) ⟨kp.rf, fun q => by rw [if_neg (by omega)]⟩
    refine Tw8.ofR [U_] (by decide) (fun _ => rfl) (fun _ _ => Nat.le_of_ble_eq_true rfl) (g8_act_0 ⟨fun q => absurd (by rw [ha]; rfl) q, fun _ => a3 _ _ (Rn8.pre (kp_eq8 a1 (g := shW (σ.2.1 61)) (fun i _ => a2 i)) (g8_act_11 ⟨fun _ => ?_, fun q => absurd (by decide) q⟩))⟩)
    have h8 := fin (upd σ.1 62 (σ.1 62 - 1), upA σ.2.1 61 (shW (σ.2.1 61)), σ.2.2) 39 (by show upd σ.1 62 (σ.1 62 - 1) 62 = _; rw [upd_s, ha]; rfl) (by decide)
    have e9 : actS σ 40 = (upd (upd (upd σ.1 62 (σ.1 62 - 1)) 62 (nI (39 + 1))) 63 0, upA (upA (upA σ.2.1 61 (shW (σ.2.1 61))) 61 (putW (upA σ.2.1 61 (shW (σ.2.1 61)) 61) (upA σ.2.1 61 (shW (σ.2.1 61)) 59) 39)) 60 (upA σ.2.1 61 (shW (σ.2.1 61)) 59), σ.2.2) := by
      rw [upd_upd, upA_upA, upA_s, upA_n (by decide)]
      rfl
    rw [e9]
    exact h8
  · have h8 := fin σ a ha (by omega)
    have e9 : actS σ a = (upd (upd σ.1 62 (nI (a + 1))) 63 0, upA (upA σ.2.1 61 (putW (σ.2.1 61) (σ.2.1 59) a)) 60 (σ.2.1 59), σ.2.2) := by
      unfold actS actA actW
      rw [if_neg e, if_neg e]
    rw [e9]
    exact Tw8.ofR [U_] (by decide) (fun _ => rfl) (fun _ _ => Nat.le_of_ble_eq_true rfl) (g8_act_0 ⟨fun _ => h8, fun q => absurd (by rw [ha] at q; exact q) (fun z => e ((nI_eq (by omega) (by decide)).mp z))⟩)
/-- what is now and what was kept at place a change their places -/
def exS (σ : S8) (a : Nat) : S8 := (σ.1, upA (upA σ.2.1 61 (putW (σ.2.1 61) (σ.2.1 59) a)) 59 (getW (σ.2.1 61) a), σ.2.2)
theorem exchangeT8 (d : Nat) (σ : S8) (a : Nat) (h39 : a ≤ 39) : Tw8 mX8_exchange (d + 1) [.int (39 * nI a)] σ none (exS σ a) := by
  have e0 : ∀ k, (39 * nI a : Int32) + nI k = nI (39 * a + k) := fun k => n39 a k
  obtain ⟨_, τ, ⟨a1, a2, a4⟩, a3⟩ := iter8 (A := Unit) (fun k _ τ r σ1 => Rn8 mX8_exchange (d + 1) 2 [.int (39 * nI a), .int (nI k), U_] (fun _ => []) τ r σ1) (fun k _ τ => kp [61, 59] σ τ ∧ (∀ q, τ.2.1 61 q = if 39 * a ≤ q ∧ q < 39 * a + k then σ.2.1 59 (q - 39 * a) else σ.2.1 61 q) ∧ ∀ q, τ.2.1 59 q = if q < k then σ.2.1 61 (39 * a + q) else σ.2.1 59 q) 39 (by
    rintro k ⟨⟩ τ hk ⟨q1, q2, q3⟩
    refine ⟨(), (τ.1, upA (upA τ.2.1 61 (upd (τ.2.1 61) (39 * a + k) (τ.2.1 59 k))) 59 (upd (τ.2.1 59) k (τ.2.1 61 (39 * a + k))), τ.2.2.1, τ.2.2.2), ⟨kp1 (kp1 q1 (j := 61) (by decide)) (j := 59) (by decide), fun q => ?_, fun q => ?_⟩, fun r σ1 h => ?_⟩
    · show upA (upA τ.2.1 61 (upd (τ.2.1 61) (39 * a + k) (τ.2.1 59 k))) 59 (upd (τ.2.1 59) k (τ.2.1 61 (39 * a + k))) 61 q = _
      rw [upA_n (by decide), upA_s]
      by_cases e : q = 39 * a + k
      · subst e
        rw [upd_s, if_pos ⟨by omega, by omega⟩, Nat.add_sub_cancel_left, q3, if_neg (by omega)]
      · rw [upd_n e, q2]
        by_cases h9 : 39 * a ≤ q ∧ q < 39 * a + k
        · rw [if_pos h9, if_pos ⟨h9.1, by omega⟩]
        · rw [if_neg h9, if_neg (fun z => h9 ⟨z.1, by omega⟩)]
    · show upA (upA τ.2.1 61 (upd (τ.2.1 61) (39 * a + k) (τ.2.1 59 k))) 59 (upd (τ.2.1 59) k (τ.2.1 61 (39 * a + k))) 59 q = _
      rw [upA_s]
      by_cases e : q = k
      · subst e
        rw [upd_s, if_pos (by omega), q2, if_neg (by omega)]
      · rw [upd_n e, q3]
        by_cases h9 : q < k
        · rw [if_pos h9, if_pos (by omega)]
        · rw [if_neg h9, if_neg (by omega)]
    · refine g8_exchange_2 ⟨fun q => absurd q (nI_ge (b := 39) hk (by decide)), fun _ => ⟨by rw [e0]; exact vin (by omega) (by decide), vin hk (by decide), ?_⟩⟩
      rw [nI_1, e0, cl (by omega), cl (by omega)]
      exact h) 0 () σ (Nat.zero_le _) ⟨kp.rf, fun q => by rw [if_neg (by omega)], fun q => by rw [if_neg (by omega)]⟩
  have h9 : Tw8 mX8_exchange (d + 1) [.int (39 * nI a)] σ none τ := Tw8.ofR [.int (39 * nI a), U_, U_] (by decide) (fun _ => rfl) (fun _ _ => Nat.le_of_ble_eq_true rfl) (g8_exchange_0 (a3 _ _ (g8_exchange_2 ⟨fun _ => ⟨rfl, rfl⟩, fun q => absurd (by decide) q⟩)))
  refine h9.post ⟨a1.1, a1.2.1, fun j i hi => ?_⟩
  show _ = upA (upA σ.2.1 61 (putW (σ.2.1 61) (σ.2.1 59) a)) 59 (getW (σ.2.1 61) a) j i
  by_cases e1 : j = 59
  · subst e1
    rw [upA_s, a4, if_pos (show i < 39 from hi)]
    rfl
  · rw [upA_n e1]
    by_cases e2 : j = 61
    · subst e2
      rw [upA_s, a2]
      rfl
    · rw [upA_n e2, a1.2.2 j (by simp [e1, e2])]
