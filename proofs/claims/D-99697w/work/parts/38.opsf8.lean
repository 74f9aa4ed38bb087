/-! the twin's public members: odds, breadth, handing on, turning -/
set_option maxRecDepth 100000
theorem div8_loop (d : Nat) (v0 v1 : Int32) : ∀ n x y, y < n → x < 2 ^ 31 → y < 2 ^ 31 → RnS mX8_divisor (d + 1) 4 [.int v0, .int v1, .int (nI x), .int (nI y), U_] [] (some (.int (nI (Nat.gcd y x)))) := by
  intro n
  induction n with
  | zero => intro x y h; omega
  | succ n ih =>
    intro x y hn hx hy
    by_cases h : y = 0
    · subst h
      exact g8_divisor_4 ⟨fun _ => by rw [Nat.gcd_zero_left], fun q => absurd (by decide) q⟩
    · refine g8_divisor_4 ⟨fun q => absurd q (nI_nle (by omega) hy), fun _ => ⟨nI_ne0 (by omega) hy, ?_⟩⟩
      rw [pk_rem hx (by omega) hy]
      have h2 := Nat.mod_lt x (show 0 < y by omega)
      have h3 := ih y (x % y) (by omega) hy (by omega)
      rw [← Nat.gcd_rec y x] at h3
      exact h3
theorem divisorS (d : Nat) (x y : Nat) (hx : x < 2 ^ 31) (hy : y < 2 ^ 31) : St8 mX8_divisor (d + 1) [.int (nI x), .int (nI y)] (some (.int (nI (Nat.gcd y x)))) :=
  St8.of (by decide) rfl (fun G => Nat.le_of_ble_eq_true rfl) (g8_divisor_0 (div8_loop d _ _ (y + 1) x y (by omega) hx hy))
theorem pw8_nI (b : Nat) : ∀ n, pw8 (nI b) n = nI (b ^ n) := by
  intro n
  induction n with
  | zero => rfl
  | succ n ih =>
    show pw8 (nI b) n * nI b = _
    rw [ih, pk_mul, Nat.pow_succ]
theorem oddsM (d : Nat) (σ : S8) (n part : Int32) {rn : Nat} (hr : σ.1 53 = nI rn) (h100 : rn ≤ 100) :
    M8 mX8_odds (d + 2) [.int n, .int part] σ (if s8_isIn n 0 4 = 0 then -1 else if s8_isIn part 0 1 = 0 then -1 else if part = 0 then nI ((100 - rn) ^ n.toNatClampNeg) / nI (Nat.gcd ((100 - rn) ^ n.toNatClampNeg) (100 ^ n.toNatClampNeg)) else nI (100 ^ n.toNatClampNeg) / nI (Nat.gcd ((100 - rn) ^ n.toNatClampNeg) (100 ^ n.toNatClampNeg))) σ := by
  have go : ∀ {r σ1}, _ → Tw8 mX8_odds (d + 2) [.int n, .int part] σ r σ1 := fun h => Tw8.ofR [.int n, .int part, U_, U_, U_] (by decide) (fun _ => rfl) (fun _ _ => Nat.le_of_ble_eq_true rfl) (g8_odds_0 h)
  by_cases h1 : s8_isIn n 0 4 = 0
  · rw [if_pos h1]
    exact ⟨σ, go ⟨fun _ => ⟨rfl, rfl⟩, fun q => absurd h1 q⟩, PK.rf⟩
  rw [if_neg h1]
  by_cases h2 : s8_isIn part 0 1 = 0
  · rw [if_pos h2]
    exact ⟨σ, go ⟨fun q => absurd q h1, fun _ => ⟨fun q => absurd h2 q, fun _ => ⟨rfl, rfl⟩⟩⟩, PK.rf⟩
  rw [if_neg h2]
  obtain ⟨k, hk, ek⟩ := isIn_n (N := 4) (by decide) h1
  have ck : n.toNatClampNeg = k := by rw [ek]; exact cl (by omega)
  have e1 : s8_power 100 n = nI (100 ^ k) := by unfold s8_power; rw [ck]; exact pw8_nI 100 k
  have e2 : s8_power (100 - σ.1 53) n = nI ((100 - rn) ^ k) := by
    unfold s8_power
    have : (100 : Int32) - σ.1 53 = nI (100 - rn) := by rw [hr]; exact pk_sub (a := 100) h100
    rw [ck, this]
    exact pw8_nI _ k
  have b1 : 100 ^ k ≤ 100 ^ 4 := Nat.pow_le_pow_right (by decide) hk
  have b2 : (100 - rn) ^ k ≤ 100 ^ k := Nat.pow_le_pow_left (by omega) k
  have b3 : 0 < 100 ^ k := Nat.pow_pos (by decide)
  have hd := divisorS d (100 ^ k) ((100 - rn) ^ k) (by omega) (by omega)
  have hg0 : 0 < Nat.gcd ((100 - rn) ^ k) (100 ^ k) := Nat.gcd_pos_of_pos_right _ b3
  have hg1 : Nat.gcd ((100 - rn) ^ k) (100 ^ k) ≤ 100 ^ k := Nat.gcd_le_right _ b3
  have hne : ¬ nI (Nat.gcd ((100 - rn) ^ k) (100 ^ k)) = 0 := nI_ne0 hg0 (by omega)
  refine ⟨σ, go ⟨fun q => absurd q h1, fun _ => ⟨fun _ => ⟨nI (Nat.gcd ((100 - rn) ^ k) (100 ^ k)), by rw [e1, e2]; exact hd, fun q => ⟨hne, ?_, rfl⟩, fun q => ⟨hne, ?_, rfl⟩⟩, fun q => absurd q h2⟩⟩, PK.rf⟩
  · rw [if_neg q, e1, ck]
  · rw [if_pos q, e2, ck]
/-! bits -/
theorem set8_congr {f g : Nat → Bool} : ∀ n, (∀ i, i < n → f i = g i) → set8 f n = set8 g n := by
  intro n
  induction n with
  | zero => intro _; rfl
  | succ n ih =>
    intro h
    show set8 f n ||| ((if f n then 1 else 0) <<< (nI n &&& 31)) = set8 g n ||| ((if g n then 1 else 0) <<< (nI n &&& 31))
    rw [ih (fun i hi => h i (by omega)), h n (by omega)]
def bl6 (b0 b1 b2 b3 b4 b5 : Bool) (i : Nat) : Bool := match i with
  | 0 => b0 | 1 => b1 | 2 => b2 | 3 => b3 | 4 => b4 | 5 => b5 | _ => false
theorem bits6 : ∀ (b0 b1 b2 b3 b4 b5 : Bool) (n : Fin 7) (k : Fin 6), hasB (set8 (bl6 b0 b1 b2 b3 b4 b5) n.val) k.val = (decide (k.val < n.val) && bl6 b0 b1 b2 b3 b4 b5 k.val) := by decide +kernel
theorem bl6_f (f : Nat → Bool) {i : Nat} (h : i < 6) : f i = bl6 (f 0) (f 1) (f 2) (f 3) (f 4) (f 5) i := by
  match i, h with
  | 0, _ => rfl
  | 1, _ => rfl
  | 2, _ => rfl
  | 3, _ => rfl
  | 4, _ => rfl
  | 5, _ => rfl
theorem hasB_set8 (f : Nat → Bool) {n k : Nat} (hn : n ≤ 6) (hk : k < 6) : hasB (set8 f n) k = (decide (k < n) && f k) := by
  rw [set8_congr n (fun i hi => bl6_f f (show i < 6 by omega)), bits6 _ _ _ _ _ _ ⟨n, by omega⟩ ⟨k, hk⟩, ← bl6_f f hk]
theorem wearers_has {v : Nat → Int32} {nm nc m : Nat} (h6 : nm ≤ 6) (hW : okW v nm nc) (hm : m < nm) (h : hasB (wearers8 v nm) m = true) : ∃ c, c < nc ∧ v (6 + m) = nI c := by
  unfold wearers8 at h
  rw [hasB_set8 _ h6 (by omega)] at h
  simp at h
  rcases hW m hm with e | e
  · rw [e] at h
    exact absurd h.2 (by decide)
  · exact e
theorem breadthM (d : Nat) (σ : S8) {nm nc : Nat} (hR : R8 σ nm nc) (hW : okW (σ.2.1 59) nm nc) : M8 mX8_breadth (d + 3) [] σ (wideE (σ.2.1 59) (wearers8 (σ.2.1 59) nm) nm) σ := by
  have h6 := hR.2.1
  have t1 := wearersT8 d (stA σ 60 (σ.2.1 59)) nm (fillR hR).1 h6
  rw [stA_s] at t1
  have t2 := wideOfT8 (d + 1) (stA σ 60 (σ.2.1 59)) (wearers8 (σ.2.1 59) nm) (nc := nc) (fillR hR).1 h6 hR.2.2.2.1 (fun m hm h => by rw [stA_s]; exact wearers_has h6 hW hm h)
  rw [stA_s] at t2
  exact ⟨_, Tw8.ofR [] (by decide) (fun _ => rfl) (fun _ _ => Nat.le_of_ble_eq_true rfl) (g8_breadth_0 ⟨_, fillX (d + 1) σ, _, _, t1, _, _, t2, rfl, rfl⟩), fillPK⟩
/-! handing on -/
/-- how many fit, by the vector v -/
def fitN (e : E8) (v : Nat → Int32) (nm : Nat) : Int32 := s8_members (set8 (ownE e v) nm)
def rotV (v : Nat → Int32) (nm k : Nat) : Nat → Int32 := fun q => if 6 ≤ q ∧ q < 6 + nm then v (6 + (q - 6 + k) % nm) else v q
theorem rotV_ok {v : Nat → Int32} {nm nc k : Nat} (h0 : 0 < nm) (h : okW v nm nc) : okW (rotV v nm k) nm nc := by
  intro m hm
  unfold rotV
  rw [if_pos ⟨by omega, by omega⟩]
  exact h _ (Nat.mod_lt _ h0)
/-- the best of so many: the first of the most -/
def best8 (sc : Nat → Int32) (p : Int32 × Int32) (n : Nat) : Int32 × Int32 := acc8 (fun k p => if p.2 < sc k then (nI k, sc k) else p) p n
theorem best8_s (sc : Nat → Int32) (p : Int32 × Int32) (k : Nat) : best8 sc p (k + 1) = if (best8 sc p k).2 < sc k then (nI k, sc k) else best8 sc p k := rfl
theorem rotaM (d : Nat) (σ : S8) (what : Int32) {nm nc : Nat} (hR : R8 σ nm nc) (hW : okW (σ.2.1 59) nm nc) :
    M8 mX8_rota (d + 7) [.int what] σ (if s8_isIn what 0 1 = 0 ∨ nm = 0 then -1 else if what = 0 then (best8 (fun k => fitN (env8 σ) (rotV (σ.2.1 59) nm k) nm) (0, -1) nm).1 else (best8 (fun k => fitN (env8 σ) (rotV (σ.2.1 59) nm k) nm) (0, -1) nm).2) σ := by
  have h6 := hR.2.1
  have go : ∀ {r σ1}, _ → Tw8 mX8_rota (d + 7) [.int what] σ r σ1 := fun h => Tw8.ofR [.int what, U_, U_, U_, U_] (by decide) (fun _ => rfl) (fun _ _ => Nat.le_of_ble_eq_true rfl) (g8_rota_0 h)
  have e48 : σ.1 48 = 0 ↔ nm = 0 := by rw [hR.1]; exact nI_eq (b := 0) (by omega) (by decide)
  by_cases h1 : s8_isIn what 0 1 = 0
  · rw [if_pos (Or.inl h1)]
    exact ⟨σ, go ⟨fun _ => ⟨rfl, rfl⟩, fun q => absurd h1 q⟩, PK.rf⟩
  by_cases h2 : nm = 0
  · rw [if_pos (Or.inr h2)]
    exact ⟨σ, go ⟨fun q => absurd q h1, fun _ => ⟨fun q => absurd (e48.mpr h2) q, fun _ => ⟨rfl, rfl⟩⟩⟩, PK.rf⟩
  rw [if_neg (fun h => h.elim h1 h2)]
  generalize hsc : (fun k => fitN (env8 σ) (rotV (σ.2.1 59) nm k) nm) = sc
  obtain ⟨a, τ, ⟨a1, a2⟩, a3⟩ := iter8 (A := Int32 × Int32) (fun k a τ r σ1 => Rn8 mX8_rota (d + 7) 25 [.int what, .int a.1, .int a.2, .int (nI k), U_] (fun _ => []) τ r σ1) (fun k a τ => a = best8 sc (0, -1) k ∧ kp [16, 26, 60] σ τ) nm (by
    rintro k a τ hk ⟨q0, q1⟩
    have e59 : τ.2.1 59 = σ.2.1 59 := q1.2.2 59 (by decide)
    obtain ⟨_, τ1, ⟨b1, b2⟩, b3⟩ := iter8 (A := Unit) (fun m _ τ r σ1 => Rn8 mX8_rota (d + 7) 41 [.int what, .int a.1, .int a.2, .int (nI k), .int (nI m)] (fun _ => []) τ r σ1) (fun m _ τ1 => kp [16, 26, 60] σ τ1 ∧ ∀ q, τ1.2.1 60 q = if 6 ≤ q ∧ q < 6 + m then σ.2.1 59 (6 + (q - 6 + k) % nm) else σ.2.1 59 q) nm (by
      rintro m ⟨⟩ τ1 hm ⟨p1, p2⟩
      have em : (nI m + nI k - (nI m + nI k) / τ1.1 48 * τ1.1 48 : Int32) = nI ((m + k) % nm) := by
        rw [p1.1, hR.1, nI_add]
        exact pk_rem (by omega) (by omega) (by omega)
      have hmod := Nat.mod_lt (m + k) (show 0 < nm by omega)
      refine ⟨(), _, ⟨kp1 (j := 60) (g := upd (τ1.2.1 60) (6 + m) (σ.2.1 59 (6 + (m + k) % nm))) p1 (by decide), fun q => ?_⟩, fun r σ1 h => ?_⟩
      · show upA τ1.2.1 60 (upd (τ1.2.1 60) (6 + m) (σ.2.1 59 (6 + (m + k) % nm))) 60 q = _
        rw [upA_s]
        by_cases e : q = 6 + m
        · subst e
          rw [upd_s, if_pos ⟨by omega, by omega⟩, Nat.add_sub_cancel_left]
        · rw [upd_n e, p2]
          by_cases h9 : 6 ≤ q ∧ q < 6 + m
          · rw [if_pos h9, if_pos ⟨h9.1, by omega⟩]
          · rw [if_neg h9, if_neg (fun z => h9 ⟨z.1, by omega⟩)]
      · refine g8_rota_41 ⟨fun q => absurd q (by rw [p1.1, hR.1]; exact nI_ge hm (by omega)), fun _ => ⟨by rw [p1.1]; exact fun q => h2 (e48.mp q), by rw [em, n6]; exact vin (by omega) (by decide), by rw [n6]; exact vin (by omega) (by decide), ?_⟩⟩
        rw [em, n6, n6, cl (by omega), cl (by omega), p1.2.2 59 (by decide), nI_1]
        exact h) 0 () (stA τ 60 (τ.2.1 59)) (Nat.zero_le _) ⟨q1.tr (stA_kp (by decide)), fun q => by rw [if_neg (by omega), stA_s, e59]⟩
    have e60 : τ1.2.1 60 = rotV (σ.2.1 59) nm k := funext b2
    obtain ⟨τ2, f1, f2⟩ := fittedOnesT8 d τ1 (hR.kp b1 (by decide) (by decide)) (by rw [e60]; exact rotV_ok (by omega) hW)
    rw [e60, env8_kp b1 (by decide) (by decide) (by decide)] at f1
    have esc : s8_members (set8 (ownE (env8 σ) (rotV (σ.2.1 59) nm k)) nm) = sc k := by rw [← hsc]; rfl
    refine ⟨best8 sc (0, -1) (k + 1), τ2, ⟨rfl, b1.tr (f2.mo (by decide))⟩, fun r σ1 h => ?_⟩
    refine g8_rota_25 ⟨fun q => absurd q (by rw [q1.1, hR.1]; exact nI_ge hk (by omega)), fun _ => ⟨_, fillX (d + 5) τ, b3 _ _ (g8_rota_41 ⟨fun _ => ⟨_, _, f1, fun q => ?_, fun q => ?_⟩, fun q => absurd (by rw [b1.1, hR.1]; exact nI_le (Nat.le_refl _) (by omega)) q⟩)⟩⟩
    · rw [esc] at q ⊢
      rw [best8_s, ← q0, if_pos q] at h
      rw [nI_1]
      exact h
    · rw [esc] at q
      rw [best8_s, ← q0, if_neg q] at h
      rw [nI_1]
      exact h) 0 (0, -1) σ (Nat.zero_le _) ⟨rfl, kp.rf⟩
  subst a1
  refine ⟨τ, go ⟨fun q => absurd q h1, fun _ => ⟨fun _ => a3 _ _ (g8_rota_25 ⟨fun _ => ⟨?_, rfl⟩, fun q => absurd (by rw [a2.1, hR.1]; exact nI_le (Nat.le_refl _) (by omega)) q⟩), fun q => absurd (e48.mp q) h2⟩⟩, PK.of a2 (by decide)⟩
  by_cases hw : what = 0
  · rw [if_pos hw]
  · rw [if_neg hw]
/-- the best coat to turn -/
def turn8 (e : E8) (v : Nat → Int32) (nm : Nat) : Nat → Int32 × Int32 := acc8 (fun c p => if hasB (v 36) c then p else if p.2 < fitN e (upd v (30 + c) 0) nm then (nI c, fitN e (upd v (30 + c) 0) nm) else p) (-1, -1)
theorem turn8_s (e : E8) (v : Nat → Int32) (nm c : Nat) : turn8 e v nm (c + 1) = if hasB (v 36) c then turn8 e v nm c else if (turn8 e v nm c).2 < fitN e (upd v (30 + c) 0) nm then (nI c, fitN e (upd v (30 + c) 0) nm) else turn8 e v nm c := rfl
theorem turningM (d : Nat) (σ : S8) {nm nc : Nat} (hR : R8 σ nm nc) (hW : okW (σ.2.1 59) nm nc) : M8 mX8_turning (d + 7) [] σ (turn8 (env8 σ) (σ.2.1 59) nm nc).1 σ := by
  have h6 := hR.2.1
  have hc6 := hR.2.2.2.1
  obtain ⟨a, τ, ⟨a1, a2⟩, a3⟩ := iter8 (A := Int32 × Int32) (fun k a τ r σ1 => Rn8 mX8_turning (d + 7) 6 [.int a.1, .int a.2, .int (nI k), U_] (fun _ => []) τ r σ1) (fun k a τ => a = turn8 (env8 σ) (σ.2.1 59) nm k ∧ kp [16, 26, 60] σ τ) nc (by
    rintro k a τ hk ⟨q0, q1⟩
    have e59 : τ.2.1 59 = σ.2.1 59 := q1.2.2 59 (by decide)
    have k1 : kp [16, 26, 60] σ (stA τ 60 (τ.2.1 59)) := q1.tr (stA_kp (by decide))
    have e36 : (stA τ 60 (τ.2.1 59)).2.1 60 36 = σ.2.1 59 36 := by rw [stA_s, e59]
    have hex : ¬ τ.1 49 ≤ nI k := by rw [q1.1, hR.2.2.1]; exact nI_ge hk (by omega)
    have c30 : (30 + nI k : Int32).toNatClampNeg = 30 + k := by rw [n30]; exact cl (by omega)
    by_cases hb : hasB (σ.2.1 59 36) k = true
    · refine ⟨_, _, ⟨rfl, k1⟩, fun r σ1 h => ?_⟩
      rw [turn8_s, if_pos hb, ← q0] at h
      refine g8_turning_6 ⟨fun q => absurd q hex, fun _ => ⟨_, fillX (d + 5) τ, fun q => absurd (by rw [e36]; exact of_decide_eq_true hb) q, fun _ => ?_⟩⟩
      rw [nI_1]
      exact h
    · have k2 : kp [16, 26, 60] σ ((stA τ 60 (τ.2.1 59)).1, upA (stA τ 60 (τ.2.1 59)).2.1 60 (upd ((stA τ 60 (τ.2.1 59)).2.1 60) (30 + k) 0), (stA τ 60 (τ.2.1 59)).2.2.1, (stA τ 60 (τ.2.1 59)).2.2.2) := kp1 k1 (by decide)
      have e60 : (upA (stA τ 60 (τ.2.1 59)).2.1 60 (upd ((stA τ 60 (τ.2.1 59)).2.1 60) (30 + k) 0)) 60 = upd (σ.2.1 59) (30 + k) 0 := by rw [upA_s, stA_s, e59]
      obtain ⟨τ2, f1, f2⟩ := fittedOnesT8 d _ (hR.kp k2 (by decide) (by decide)) (by
        show okW ((upA (stA τ 60 (τ.2.1 59)).2.1 60 (upd ((stA τ 60 (τ.2.1 59)).2.1 60) (30 + k) 0)) 60) nm nc
        rw [e60]
        intro m hm
        rw [upd_n (by omega)]
        exact hW m hm)
      rw [env8_kp k2 (by decide) (by decide) (by decide)] at f1
      have f1' : Tw8 mX8_fittedOnes (d + 6) [] ((stA τ 60 (τ.2.1 59)).1, upA (stA τ 60 (τ.2.1 59)).2.1 60 (upd ((stA τ 60 (τ.2.1 59)).2.1 60) (30 + k) 0), (stA τ 60 (τ.2.1 59)).2.2.1, (stA τ 60 (τ.2.1 59)).2.2.2) (some (.int (set8 (ownE (env8 σ) (upd (σ.2.1 59) (30 + k) 0)) nm))) τ2 := by
        rw [← e60]
        exact f1
      refine ⟨turn8 (env8 σ) (σ.2.1 59) nm (k + 1), τ2, ⟨rfl, k2.tr (f2.mo (by decide))⟩, fun r σ1 h => ?_⟩
      rw [turn8_s, if_neg hb, ← q0] at h
      refine g8_turning_6 ⟨fun q => absurd q hex, fun _ => ⟨_, fillX (d + 5) τ, fun _ => ⟨by rw [n30]; exact vin (by omega) (by decide), _, _, by rw [c30]; exact f1', fun q => ?_, fun q => ?_⟩, fun q => absurd (by rw [e36] at q; exact decide_eq_true q) hb⟩⟩
      · have q' : a.2 < fitN (env8 σ) (upd (σ.2.1 59) (30 + k) 0) nm := q
        rw [if_pos q'] at h
        rw [nI_1]
        exact h
      · have q' : ¬ a.2 < fitN (env8 σ) (upd (σ.2.1 59) (30 + k) 0) nm := q
        rw [if_neg q'] at h
        rw [nI_1]
        exact h) 0 (-1, -1) σ (Nat.zero_le _) ⟨rfl, kp.rf⟩
  subst a1
  exact ⟨τ, Tw8.ofR [U_, U_, U_, U_] (by decide) (fun _ => rfl) (fun _ _ => Nat.le_of_ble_eq_true rfl) (g8_turning_0 (a3 _ _ (g8_turning_6 ⟨fun _ => ⟨rfl, rfl⟩, fun q => absurd (by rw [a2.1, hR.2.2.1]; exact nI_le (Nat.le_refl _) (by omega)) q⟩))), PK.of a2 (by decide)⟩
