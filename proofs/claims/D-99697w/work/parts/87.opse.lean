/-! the component: what it answers (3) -/
set_option maxRecDepth 100000
section C3
variable {ρ : Rho} {E : Hp → Prop} {A : Nat → Nat} {σ : Sg}
def manC (ρ : Rho) (v : Nat → Int32) (m what : Int32) : Int32 :=
  if idx m (ρ.1 0) then (if what = 0 then mnI ρ m.toNatClampNeg 1 else if what = 1 then v m.toNatClampNeg else if what = 2 then mnI ρ m.toNatClampNeg 3 else if what = 3 then v (6 + m.toNatClampNeg) else if what = 4 then set8 (fitE (eC ρ) v m.toNatClampNeg) (ρ.1 1) else -2) else -2
theorem manCM (d : Nat) (m what : Int32) (hT : tlV ρ) (hN : okNow ρ (stV σ 1)) : ∃ σ1, Tv ρ E A mX0_man (d + 304) 0 0 [.ref (A 0), .int m, .int what] σ (some (.int (manC ρ (stV σ 1) m what))) σ1 ∧ kc [30] σ σ1 := by
  have h6 := hT.1
  have q0 := isManC (d + 300) (E := E) (A := A) (σ := σ) m h6
  have go : ∀ {r σ1}, σ1.2 = σ.2 → _ → Tv ρ E A mX0_man (d + 304) 0 0 [.ref (A 0), .int m, .int what] σ r σ1 := fun h2 h => Tv.of [.ref (A 0), .int m, .int what] (by decide) rfl (fun _ => Nat.le_of_ble_eq_true rfl) h2 (gc_X0_man_0 ⟨_, _, q0, h⟩)
  unfold manC
  cases h1 : idx m (ρ.1 0) with
  | false => exact ⟨σ, go rfl ⟨fun q => absurd (bi_f h1) q, fun _ => ⟨rfl, rfl⟩⟩, kc.rf⟩
  | true =>
    obtain ⟨j, hj, rfl⟩ := idx_of h1 (by omega)
    have cm : (nI j).toNatClampNeg = j := cl (by omega)
    rw [if_pos rfl, cm]
    have b1 : vp_in (nI j) 6 := vin (by omega) (by decide)
    have b2 : vp_in (nI j) (ρ.1 0) := vin hj (by omega)
    have go2 : ∀ {r σ1}, σ1.2 = σ.2 → _ → Tv ρ E A mX0_man (d + 304) 0 0 [.ref (A 0), .int (nI j), .int what] σ r σ1 := fun h2 h => go h2 ⟨fun _ => h, fun q => absurd q (bi_t h1)⟩
    by_cases w0 : what = 0
    · subst w0
      exact ⟨σ, go2 rfl ⟨fun q => absurd q (by decide), fun _ => ⟨b2, by rw [if_pos rfl, cm], rfl⟩, fun q => absurd q (by decide), fun q => absurd q (by decide), fun q => absurd q (by decide), fun q => absurd q (by decide)⟩, kc.rf⟩
    by_cases w1 : what = 1
    · subst w1
      exact ⟨σ, go2 rfl ⟨fun q => absurd q (by decide), fun q => absurd q (by decide), fun _ => ⟨b1, by rw [if_neg w0, if_pos rfl, cm, rdn0 (by omega)], rfl⟩, fun q => absurd q (by decide), fun q => absurd q (by decide), fun q => absurd q (by decide)⟩, kc.rf⟩
    by_cases w2 : what = 2
    · subst w2
      exact ⟨σ, go2 rfl ⟨fun q => absurd q (by decide), fun q => absurd q (by decide), fun q => absurd q (by decide), fun _ => ⟨b2, by rw [if_neg w0, if_neg w1, if_pos rfl, cm], rfl⟩, fun q => absurd q (by decide), fun q => absurd q (by decide)⟩, kc.rf⟩
    by_cases w3 : what = 3
    · subst w3
      exact ⟨σ, go2 rfl ⟨fun q => absurd q (by decide), fun q => absurd q (by decide), fun q => absurd q (by decide), fun q => absurd q (by decide), fun _ => ⟨b1, by rw [if_neg w0, if_neg w1, if_neg w2, if_pos rfl, cm, rdn1 (by omega)], rfl⟩, fun q => absurd q (by decide)⟩, kc.rf⟩
    by_cases w4 : what = 4
    · subst w4
      obtain ⟨σ1, q1, q2⟩ := fittingC d (E := E) (A := A) (σ := σ) hT hj hN
      exact ⟨σ1, go2 q1.1 ⟨fun q => absurd q (by decide), fun q => absurd q (by decide), fun q => absurd q (by decide), fun q => absurd q (by decide), fun q => absurd q (by decide), fun _ => ⟨_, _, q1, by rw [if_neg w0, if_neg w1, if_neg w2, if_neg w3, if_pos rfl], rfl⟩⟩, q2⟩
    · rw [if_neg w0, if_neg w1, if_neg w2, if_neg w3, if_neg w4]
      exact ⟨σ, go2 rfl ⟨fun _ => ⟨rfl, rfl⟩, fun q => absurd q w0, fun q => absurd q w1, fun q => absurd q w2, fun q => absurd q w3, fun q => absurd q w4⟩, kc.rf⟩
def coatCE (ρ : Rho) (v : Nat → Int32) (c what : Int32) : Int32 :=
  if idx c (ρ.1 1) then (if what = 0 then v (12 + c.toNatClampNeg) else if what = 1 then v (18 + c.toNatClampNeg) else if what = 2 then v (24 + c.toNatClampNeg) else if what = 3 then v (30 + c.toNatClampNeg) else if what = 4 then (v 36 >>> (c &&& 31)) &&& 1 else if what = 5 then wearer8 v c (ρ.1 0) else -2) else -2
theorem coatCM (d : Nat) (c what : Int32) (hT : tlV ρ) (hN : okNow ρ (stV σ 1)) : Tv ρ E A mX0_coat (d + 4) 0 0 [.ref (A 0), .int c, .int what] σ (some (.int (coatCE ρ (stV σ 1) c what))) σ := by
  have h6 := hT.1
  have h6c := hT.2.1
  have q0 := isCoatC d (E := E) (A := A) (σ := σ) c h6c
  have go : ∀ {r}, _ → Tv ρ E A mX0_coat (d + 4) 0 0 [.ref (A 0), .int c, .int what] σ r σ := fun h => Tv.of [.ref (A 0), .int c, .int what] (by decide) rfl (fun _ => Nat.le_of_ble_eq_true rfl) rfl (gc_X0_coat_0 ⟨_, _, q0, h⟩)
  unfold coatCE
  cases h1 : idx c (ρ.1 1) with
  | false => exact go ⟨fun q => absurd (bi_f h1) q, fun _ => ⟨rfl, rfl⟩⟩
  | true =>
    obtain ⟨j, hj, rfl⟩ := idx_of h1 (by omega)
    have cm : (nI j).toNatClampNeg = j := cl (by omega)
    rw [if_pos rfl, cm]
    have b1 : vp_in (nI j) 6 := vin (by omega) (by decide)
    have go2 : ∀ {r}, _ → Tv ρ E A mX0_coat (d + 4) 0 0 [.ref (A 0), .int (nI j), .int what] σ r σ := fun h => go ⟨fun _ => h, fun q => absurd q (bi_t h1)⟩
    by_cases w0 : what = 0
    · subst w0
      exact go2 ⟨fun q => absurd q (by decide), fun _ => ⟨b1, by rw [if_pos rfl, cm, rdn2 (by omega)], rfl⟩, fun q => absurd q (by decide), fun q => absurd q (by decide), fun q => absurd q (by decide), fun q => absurd q (by decide), fun q => absurd q (by decide)⟩
    by_cases w1 : what = 1
    · subst w1
      exact go2 ⟨fun q => absurd q (by decide), fun q => absurd q (by decide), fun _ => ⟨b1, by rw [if_neg w0, if_pos rfl, cm, rdn3 (by omega)], rfl⟩, fun q => absurd q (by decide), fun q => absurd q (by decide), fun q => absurd q (by decide), fun q => absurd q (by decide)⟩
    by_cases w2 : what = 2
    · subst w2
      exact go2 ⟨fun q => absurd q (by decide), fun q => absurd q (by decide), fun q => absurd q (by decide), fun _ => ⟨b1, by rw [if_neg w0, if_neg w1, if_pos rfl, cm, rdn4 (by omega)], rfl⟩, fun q => absurd q (by decide), fun q => absurd q (by decide), fun q => absurd q (by decide)⟩
    by_cases w3 : what = 3
    · subst w3
      exact go2 ⟨fun q => absurd q (by decide), fun q => absurd q (by decide), fun q => absurd q (by decide), fun q => absurd q (by decide), fun _ => ⟨b1, by rw [if_neg w0, if_neg w1, if_neg w2, if_pos rfl, cm, rdn5 (by omega)], rfl⟩, fun q => absurd q (by decide), fun q => absurd q (by decide)⟩
    by_cases w4 : what = 4
    · subst w4
      exact go2 ⟨fun q => absurd q (by decide), fun q => absurd q (by decide), fun q => absurd q (by decide), fun q => absurd q (by decide), fun q => absurd q (by decide), fun _ => ⟨by rw [if_neg w0, if_neg w1, if_neg w2, if_neg w3, if_pos rfl, rdn6], rfl⟩, fun q => absurd q (by decide)⟩
    by_cases w5 : what = 5
    · subst w5
      exact go2 ⟨fun q => absurd q (by decide), fun q => absurd q (by decide), fun q => absurd q (by decide), fun q => absurd q (by decide), fun q => absurd q (by decide), fun q => absurd q (by decide), fun _ => ⟨_, _, wearCn (d + 2) h6 (by omega) hN.2.2.1 hN.2.2.2, by rw [if_neg w0, if_neg w1, if_neg w2, if_neg w3, if_neg w4, if_pos rfl], rfl⟩⟩
    · rw [if_neg w0, if_neg w1, if_neg w2, if_neg w3, if_neg w4, if_neg w5]
      exact go2 ⟨fun _ => ⟨rfl, rfl⟩, fun q => absurd q w0, fun q => absurd q w1, fun q => absurd q w2, fun q => absurd q w3, fun q => absurd q w4, fun q => absurd q w5⟩
theorem laterCM (d : Nat) (b : Int32) : Tv ρ E A mX0_later (d + 1) 0 0 [.ref (A 0), .int b] σ (some (.int (if b < 0 then -1 else if 1000 < b then -1 else if σ.1 0 6 + b ≤ 100000 then σ.1 0 6 + b else -1))) (if b < 0 then σ else if 1000 < b then σ else if σ.1 0 6 + b ≤ 100000 then (upA σ.1 0 (upd (σ.1 0) 6 (σ.1 0 6 + b)), σ.2) else σ) := by
  have go : ∀ {r σ1}, σ1.2 = σ.2 → _ → Tv ρ E A mX0_later (d + 1) 0 0 [.ref (A 0), .int b] σ r σ1 := fun h2 h => Tv.of [.ref (A 0), .int b] (by decide) rfl (fun _ => Nat.le_of_ble_eq_true rfl) h2 (gc_X0_later_0 h)
  by_cases h1 : b < 0
  · rw [if_pos h1, if_pos h1]
    exact go rfl ⟨fun _ => ⟨rfl, rfl⟩, fun q => absurd h1 q⟩
  rw [if_neg h1, if_neg h1]
  by_cases h2 : 1000 < b
  · rw [if_pos h2, if_pos h2]
    exact go rfl ⟨fun q => absurd q h1, fun _ => ⟨fun _ => ⟨rfl, rfl⟩, fun q => absurd h2 q⟩⟩
  rw [if_neg h2, if_neg h2]
  by_cases h3 : σ.1 0 6 + b ≤ 100000
  · rw [if_pos h3, if_pos h3]
    exact go rfl ⟨fun q => absurd q h1, fun _ => ⟨fun q => absurd q h2, fun _ => ⟨fun _ => ⟨rfl, rfl⟩, fun q => absurd h3 q⟩⟩⟩
  · rw [if_neg h3, if_neg h3]
    exact go rfl ⟨fun q => absurd q h1, fun _ => ⟨fun q => absurd q h2, fun _ => ⟨fun q => absurd q h3, fun _ => ⟨rfl, rfl⟩⟩⟩⟩
theorem endCM (d : Nat) (n : Int32) : Tv ρ E A mX0_end (d + 1) 0 0 [.ref (A 0), .int n] σ (some (.int (if n < 0 then -1 else if n ≤ σ.1 0 5 then n else -1))) (if n < 0 then σ else if n ≤ σ.1 0 5 then (upA σ.1 0 (upd (σ.1 0) 5 n), σ.2) else σ) := by
  have go : ∀ {r σ1}, σ1.2 = σ.2 → _ → Tv ρ E A mX0_end (d + 1) 0 0 [.ref (A 0), .int n] σ r σ1 := fun h2 h => Tv.of [.ref (A 0), .int n] (by decide) rfl (fun _ => Nat.le_of_ble_eq_true rfl) h2 (gc_X0_end_0 h)
  by_cases h1 : n < 0
  · rw [if_pos h1, if_pos h1]
    exact go rfl ⟨fun _ => ⟨rfl, rfl⟩, fun q => absurd h1 q⟩
  rw [if_neg h1, if_neg h1]
  by_cases h2 : n ≤ σ.1 0 5
  · rw [if_pos h2, if_pos h2]
    exact go rfl ⟨fun q => absurd q h1, fun _ => ⟨fun _ => ⟨rfl, rfl⟩, fun q => absurd h2 q⟩⟩
  · rw [if_neg h2, if_neg h2]
    exact go rfl ⟨fun q => absurd q h1, fun _ => ⟨fun q => absurd q h2, fun _ => ⟨rfl, rfl⟩⟩⟩
theorem faultCM (d : Nat) (w : Int32) : Tv ρ E A mX0_fault (d + 1) 0 0 [.ref (A 0), .int w] σ (some (.int (if w = 0 then σ.1 0 7 else if w = 1 then σ.1 0 8 else -1))) σ :=
  Tv.of [.ref (A 0), .int w] (by decide) rfl (fun _ => Nat.le_of_ble_eq_true rfl) rfl (gc_X0_fault_0 ⟨rfl, rfl⟩)
theorem liesCM (d : Nat) (i : Int32) {n : Nat} (hn : σ.1 0 13 = nI n) (h6 : n ≤ 6) : Tv ρ E A mX0_lies (d + 2) 0 0 [.ref (A 0), .int i] σ (some (.int (if idx i n then σ.1 19 i.toNatClampNeg else -2))) σ := by
  have go : ∀ {r}, _ → Tv ρ E A mX0_lies (d + 2) 0 0 [.ref (A 0), .int i] σ r σ := fun h => Tv.of [.ref (A 0), .int i] (by decide) rfl (fun _ => Nat.le_of_ble_eq_true rfl) rfl (gc_X0_lies_0 h)
  have e : s0_isIn i 0 (σ.1 0 13 - 1) = bi (idx i n) := by rw [hn, isIn_c, isIn_idx (by omega)]
  cases h1 : idx i n with
  | false => exact go ⟨fun _ => ⟨rfl, rfl⟩, fun q => absurd (by rw [e, h1]; rfl) q⟩
  | true =>
    obtain ⟨j, hj, rfl⟩ := idx_of h1 (by omega)
    exact go ⟨fun q => absurd q (by rw [e]; exact bi_t h1), fun _ => ⟨vin (by omega) (by decide), rfl, rfl⟩⟩
theorem aboutCM (d : Nat) (w : Int32) : Tv ρ E A mX0_about (d + 3) 0 0 [.ref (A 0), .int w] σ (some (.int (if w = 0 then nI (ρ.1 0) else if w = 1 then nI (ρ.1 1) else if w = 2 then rgI ρ 9 else if w = 3 then rgI ρ 10 else if w = 4 then rgI ρ 11 else if w = 5 then stV σ 1 37 else if w = 6 then stV σ 1 38 else if w = 7 then σ.1 17 2 else if w = 8 then σ.1 18 2 else if w = 9 then σ.1 24 2 else if w = 10 then σ.1 0 6 else if w = 11 then σ.1 0 5 else if w = 12 then rgI ρ 8 else if w = 13 then σ.1 0 13 else -1))) σ := by
  refine Tv.of [.ref (A 0), .int w] (by decide) rfl (fun _ => Nat.le_of_ble_eq_true rfl) rfl (gc_X0_about_0 ⟨fun h => ?_, ?_, ?_, ?_, ?_, ?_, ?_, ?_, ?_, ?_, ?_, ?_, ?_, ?_, ?_⟩)
  · have ne : ∀ n : Int32, (0 ≤ n.toInt ∧ n.toInt ≤ 13) → ¬ w = n := fun n hn e => by subst e; omega
    rw [if_neg (ne 0 (by decide)), if_neg (ne 1 (by decide)), if_neg (ne 2 (by decide)), if_neg (ne 3 (by decide)), if_neg (ne 4 (by decide)), if_neg (ne 5 (by decide)), if_neg (ne 6 (by decide)), if_neg (ne 7 (by decide)), if_neg (ne 8 (by decide)), if_neg (ne 9 (by decide)), if_neg (ne 10 (by decide)), if_neg (ne 11 (by decide)), if_neg (ne 12 (by decide)), if_neg (ne 13 (by decide))]
    exact ⟨rfl, rfl⟩
  · rintro rfl; exact ⟨_, _, menC d, rfl, rfl⟩
  · rintro rfl; exact ⟨_, _, coatsC d, rfl, rfl⟩
  · rintro rfl; exact ⟨rfl, rfl⟩
  · rintro rfl; exact ⟨rfl, rfl⟩
  · rintro rfl; exact ⟨rfl, rfl⟩
  · rintro rfl; rw [rdn7]; exact ⟨rfl, rfl⟩
  · rintro rfl; rw [rdn8]; exact ⟨rfl, rfl⟩
  · rintro rfl; exact ⟨rfl, rfl⟩
  · rintro rfl; exact ⟨rfl, rfl⟩
  · rintro rfl; exact ⟨rfl, rfl⟩
  · rintro rfl; exact ⟨rfl, rfl⟩
  · rintro rfl; exact ⟨rfl, rfl⟩
  · rintro rfl; exact ⟨rfl, rfl⟩
  · rintro rfl; exact ⟨rfl, rfl⟩
/-! feeding -/
def by4 (tp : Nat → Int32) (n : Nat) (v : Int32) : Nat → Int32 := upd (upd (upd (upd tp n ((v >>> (24 &&& 31)).toInt8.toInt32)) (n + 1) ((v >>> (16 &&& 31)).toInt8.toInt32)) (n + 2) ((v >>> (8 &&& 31)).toInt8.toInt32)) (n + 3) ((v >>> (0 &&& 31)).toInt8.toInt32)
def tpC (σ : Sg) (n : Nat) (tp : Nat → Int32) : Sg := (upA (upA σ.1 15 tp) 0 (upd (σ.1 0) 5 (nI n)), σ.2)
theorem tpC_5 (σ : Sg) (n : Nat) (tp : Nat → Int32) : (tpC σ n tp).1 0 5 = nI n := by
  show upA (upA σ.1 15 tp) 0 (upd (σ.1 0) 5 (nI n)) 0 5 = _
  rw [upA_s, upd_s]
theorem tpC_15 (σ : Sg) (n : Nat) (tp : Nat → Int32) : (tpC σ n tp).1 15 = tp := by
  show upA (upA σ.1 15 tp) 0 (upd (σ.1 0) 5 (nI n)) 15 = _
  rw [upA_n (by decide), upA_s]
theorem tpC_tpC (σ : Sg) (n m : Nat) (tp tq : Nat → Int32) : tpC (tpC σ n tp) m tq = tpC σ m tq := by
  unfold tpC
  apply Prod.ext
  · funext o
    show upA (upA (upA (upA σ.1 15 tp) 0 (upd (σ.1 0) 5 (nI n))) 15 tq) 0 (upd (upA (upA σ.1 15 tp) 0 (upd (σ.1 0) 5 (nI n)) 0) 5 (nI m)) o = upA (upA σ.1 15 tq) 0 (upd (σ.1 0) 5 (nI m)) o
    by_cases e : o = 0
    · subst e
      rw [upA_s, upA_s, upA_s, upd_upd]
    · rw [upA_n e, upA_n e]
      by_cases e2 : o = 15
      · subst e2; rw [upA_s, upA_s]
      · rw [upA_n e2, upA_n e, upA_n e2, upA_n e2]
  · rfl
theorem byStep (d : Nat) (σ1 : Sg) (r : Option Value) (v k k2 : Int32) (n : Nat) (hk : ¬ k < 0) (hn : σ.1 0 5 = nI n) (h16 : n < 1600) (e2 : k + (-8) = k2) (h : Rv ρ E A mX0_bytes (d + 1) 0 0 3 [.ref (A 0), .int v, .int k2] [] (tpC σ (n + 1) (upd (σ.1 15) n ((v >>> (k &&& 31)).toInt8.toInt32))) r σ1) : Rv ρ E A mX0_bytes (d + 1) 0 0 3 [.ref (A 0), .int v, .int k] [] σ r σ1 := by
  refine gc_X0_bytes_3 ⟨fun q => absurd q hk, fun _ => ⟨by rw [hn]; exact vin h16 (by decide), ?_⟩⟩
  rw [hn, nI_1, cl (by omega), e2]
  exact h
theorem bytesC (d : Nat) (v : Int32) (n : Nat) (hn : σ.1 0 5 = nI n) (h16 : n + 4 ≤ 1600) : Tv ρ E A mX0_bytes (d + 1) 0 0 [.ref (A 0), .int v] σ none (tpC σ (n + 4) (by4 (σ.1 15) n v)) := by
  refine Tv.of [.ref (A 0), .int v, U_] (by decide) rfl (fun _ => Nat.le_of_ble_eq_true rfl) rfl (gc_X0_bytes_0 ?_)
  refine byStep d _ _ v 24 16 n (by decide) hn (by omega) (by decide) ?_
  refine byStep d _ _ v 16 8 (n + 1) (by decide) (tpC_5 _ _ _) (by omega) (by decide) ?_
  rw [tpC_tpC, tpC_15]
  refine byStep d _ _ v 8 0 (n + 2) (by decide) (tpC_5 _ _ _) (by omega) (by decide) ?_
  rw [tpC_tpC, tpC_15]
  refine byStep d _ _ v 0 (-8) (n + 3) (by decide) (tpC_5 _ _ _) (by omega) (by decide) ?_
  rw [tpC_tpC, tpC_15]
  exact gc_X0_bytes_3 ⟨fun _ => ⟨rfl, rfl⟩, fun q => absurd (by decide) q⟩
def by20 (tp : Nat → Int32) (n : Nat) (a b c e f : Int32) : Nat → Int32 := by4 (by4 (by4 (by4 (by4 tp n a) (n + 4) b) (n + 8) c) (n + 12) e) (n + 16) f
theorem feedCM (d : Nat) (a b c e f : Int32) {n : Nat} (hn : σ.1 0 5 = nI n) (h16 : n ≤ 1600) : Tv ρ E A mX0_feed (d + 2) 0 0 [.ref (A 0), .int a, .int b, .int c, .int e, .int f] σ (some (.int (if n + 20 ≤ 1600 then nI (n + 20) else -1))) (if n + 20 ≤ 1600 then tpC σ (n + 20) (by20 (σ.1 15) n a b c e f) else σ) := by
  have e20 : σ.1 0 5 + 20 = nI (n + 20) := by rw [hn]; exact nI_add n 20
  by_cases h : n + 20 ≤ 1600
  · rw [if_pos h, if_pos h]
    refine Tv.of [.ref (A 0), .int a, .int b, .int c, .int e, .int f] (by decide) rfl (fun _ => Nat.le_of_ble_eq_true rfl) rfl (gc_X0_feed_0 ⟨fun _ => ?_, fun q => absurd (by rw [e20]; exact nI_le (b := 1600) h (by decide)) q⟩)
    have s1 := bytesC d (ρ := ρ) (E := E) (A := A) a n hn (by omega)
    have s2 := bytesC d (ρ := ρ) (E := E) (A := A) (σ := tpC σ (n + 4) (by4 (σ.1 15) n a)) b (n + 4) (tpC_5 _ _ _) (by omega)
    rw [tpC_tpC, tpC_15] at s2
    have s3 := bytesC d (ρ := ρ) (E := E) (A := A) (σ := tpC σ (n + 4 + 4) (by4 (by4 (σ.1 15) n a) (n + 4) b)) c (n + 8) (tpC_5 _ _ _) (by omega)
    rw [tpC_tpC, tpC_15] at s3
    have s4 := bytesC d (ρ := ρ) (E := E) (A := A) (σ := tpC σ (n + 8 + 4) (by4 (by4 (by4 (σ.1 15) n a) (n + 4) b) (n + 8) c)) e (n + 12) (tpC_5 _ _ _) (by omega)
    rw [tpC_tpC, tpC_15] at s4
    have s5 := bytesC d (ρ := ρ) (E := E) (A := A) (σ := tpC σ (n + 12 + 4) (by4 (by4 (by4 (by4 (σ.1 15) n a) (n + 4) b) (n + 8) c) (n + 12) e)) f (n + 16) (tpC_5 _ _ _) (by omega)
    rw [tpC_tpC, tpC_15] at s5
    exact ⟨_, s1, _, s2, _, s3, _, s4, _, s5, by rw [tpC_5], rfl⟩
  · rw [if_neg h, if_neg h]
    exact Tv.of [.ref (A 0), .int a, .int b, .int c, .int e, .int f] (by decide) rfl (fun _ => Nat.le_of_ble_eq_true rfl) rfl (gc_X0_feed_0 ⟨fun q => absurd q (by rw [e20]; exact nI_ge (a := 1600) (by omega) (by omega)), fun _ => ⟨rfl, rfl⟩⟩)
/-! odds -/
theorem comS : ∀ (j d a b : Nat), a < 2 ^ 31 → b < 2 ^ j → b < 2 ^ 31 → St8 mX0_common (d + 2 * j + 1) [.int (nI a), .int (nI b)] (some (.int (nI (Nat.gcd b a)))) := by
  have z : ∀ (d a : Nat), St8 mX0_common (d + 1) [.int (nI a), .int (nI 0)] (some (.int (nI (Nat.gcd 0 a)))) := by
    intro d a
    rw [Nat.gcd_zero_left]
    exact St8.of (by decide) rfl (fun G => Nat.le_of_ble_eq_true rfl) (gc_X0_common_0 ⟨fun q => absurd rfl q, fun _ => rfl⟩)
  intro j
  induction j with
  | zero =>
    intro d a b ha hb _
    have : b = 0 := by omega
    subst this
    exact z d a
  | succ j ih =>
    intro d a b ha hb hb2
    by_cases e0 : b = 0
    · subst e0
      exact z (d + 2 * (j + 1)) a
    have hbp : 0 < b := by omega
    have hr : a % b < b := Nat.mod_lt _ hbp
    have e1 : nI a - nI a / nI b * nI b = nI (a % b) := pk_rem ha hbp hb2
    have hne : ¬ nI b = 0 := nI_ne0 hbp hb2
    have second : St8 mX0_common (d + 2 * j + 2) [.int (nI b), .int (nI (a % b))] (some (.int (nI (Nat.gcd b a)))) := by
      by_cases e2 : a % b = 0
      · rw [e2]
        have := z (d + 2 * j + 1) b
        rw [Nat.gcd_zero_left] at this
        have eg : Nat.gcd b a = b := Nat.gcd_eq_left (Nat.dvd_of_mod_eq_zero e2)
        rw [eg]
        exact this
      · have hrp : 0 < a % b := by omega
        have hlt : b % (a % b) < 2 ^ j := by
          have h1 : b % (a % b) < a % b := Nat.mod_lt _ hrp
          have h2 : 2 ^ (j + 1) = 2 * 2 ^ j := by rw [Nat.pow_succ]; omega
          by_cases q : 2 * (a % b) ≤ b
          · omega
          · have h3 : b % (a % b) = b - a % b := by
              rw [Nat.mod_eq_sub_mod (by omega), Nat.mod_eq_of_lt (by omega)]
            omega
        have e3 : nI b - nI b / nI (a % b) * nI (a % b) = nI (b % (a % b)) := pk_rem hb2 hrp (by omega)
        have hne2 : ¬ nI (a % b) = 0 := nI_ne0 hrp (by omega)
        have i3 := ih d (a % b) (b % (a % b)) (by omega) hlt (by have := Nat.mod_lt b hrp; omega)
        have eg : Nat.gcd (b % (a % b)) (a % b) = Nat.gcd b a := by
          rw [← Nat.gcd_rec (a % b) b, ← Nat.gcd_rec b a]
        rw [eg] at i3
        exact St8.of (by decide) rfl (fun G => Nat.le_of_ble_eq_true rfl) (gc_X0_common_0 ⟨fun _ => ⟨hne2, _, by rw [e3]; exact i3, rfl⟩, fun q => absurd q hne2⟩)
    rw [show d + 2 * (j + 1) + 1 = (d + 2 * j + 2) + 1 by omega]
    exact St8.of (by decide) rfl (fun G => Nat.le_of_ble_eq_true rfl) (gc_X0_common_0 ⟨fun _ => ⟨hne, _, by rw [e1]; exact second, rfl⟩, fun q => absurd q hne⟩)
theorem oddsCM (d : Nat) (n part : Int32) {rn : Nat} (hr : rgI ρ 12 = nI rn) (h100 : rn ≤ 100) : Tv ρ E A mX0_odds (d + 57) 0 0 [.ref (A 0), .int n, .int part] σ (some (.int (if s8_isIn n 0 4 = 0 then -1 else if s8_isIn part 0 1 = 0 then -1 else if part = 0 then nI ((100 - rn) ^ n.toNatClampNeg) / nI (Nat.gcd ((100 - rn) ^ n.toNatClampNeg) (100 ^ n.toNatClampNeg)) else nI (100 ^ n.toNatClampNeg) / nI (Nat.gcd ((100 - rn) ^ n.toNatClampNeg) (100 ^ n.toNatClampNeg))))) σ := by
  have go : ∀ {r}, _ → Tv ρ E A mX0_odds (d + 57) 0 0 [.ref (A 0), .int n, .int part] σ r σ := fun h => Tv.of [.ref (A 0), .int n, .int part, U_, U_, U_] (by decide) rfl (fun _ => Nat.le_of_ble_eq_true rfl) rfl (gc_X0_odds_0 (d := d + 55) h)
  by_cases h1 : s8_isIn n 0 4 = 0
  · rw [if_pos h1]
    exact go ⟨fun _ => ⟨rfl, rfl⟩, fun q => absurd h1 q⟩
  rw [if_neg h1]
  by_cases h2 : s8_isIn part 0 1 = 0
  · rw [if_pos h2]
    exact go ⟨fun q => absurd q h1, fun _ => ⟨fun q => absurd h2 q, fun _ => ⟨rfl, rfl⟩⟩⟩
  rw [if_neg h2]
  obtain ⟨k, hk, ek⟩ := isIn_n (N := 4) (by decide) h1
  have ck : n.toNatClampNeg = k := by rw [ek]; exact cl (by omega)
  rw [ck]
  have e100 : (100 : Int32) - rgI ρ 12 = nI (100 - rn) := by rw [hr]; exact pk_sub (a := 100) h100
  refine go ⟨fun q => absurd q h1, fun _ => ⟨fun _ => ?_, fun q => absurd q h2⟩⟩
  have b1 : 100 ^ k ≤ 100 ^ 4 := Nat.pow_le_pow_right (by decide) hk
  have b2 : (100 - rn) ^ k ≤ 100 ^ k := Nat.pow_le_pow_left (by omega) k
  have b3 : 0 < 100 ^ k := Nat.pow_pos (by decide)
  obtain ⟨a, τ, ⟨q1, q2⟩, q3⟩ := iterC (T := Unit) (fun i _ τ r σ1 => Rv ρ E A mX0_odds (d + 57) 0 0 28 [.ref (A 0), .int n, .int part, .int (nI ((100 - rn) ^ i)), .int (nI (100 ^ i)), .int (nI i)] [] τ r σ1) (fun i _ τ => τ = σ ∧ True) k (by
    rintro i ⟨⟩ τ hi ⟨rfl, _⟩
    refine ⟨(), τ, ⟨rfl, trivial⟩, fun r σ1 h => ?_⟩
    refine gc_X0_odds_28 (d := d + 55) ⟨fun q => absurd q (by rw [ek]; exact nI_ge hi (by omega)), fun _ => ?_⟩
    rw [e100, pk_mul, show (100 : Int32) = nI 100 from rfl, pk_mul, nI_1, ← Nat.pow_succ, ← Nat.pow_succ]
    exact h) 0 () σ (Nat.zero_le _) ⟨rfl, trivial⟩
  subst q1
  have hd := comS 27 d (100 ^ k) ((100 - rn) ^ k) (by omega) (by omega) (by omega)
  have hg0 : 0 < Nat.gcd ((100 - rn) ^ k) (100 ^ k) := Nat.gcd_pos_of_pos_right _ b3
  have hg1 : Nat.gcd ((100 - rn) ^ k) (100 ^ k) ≤ 100 ^ k := Nat.gcd_le_right _ b3
  have hne : ¬ nI (Nat.gcd ((100 - rn) ^ k) (100 ^ k)) = 0 := nI_ne0 hg0 (by omega)
  refine q3 _ _ (gc_X0_odds_28 (d := d + 55) ⟨fun _ => ⟨_, by rw [show d + 55 + 1 = d + 1 + 2 * 27 + 1 by omega]; exact comS 27 (d + 1) (100 ^ k) ((100 - rn) ^ k) (by omega) (by omega) (by omega), hne, ?_, rfl⟩, fun q => absurd (by rw [ek]; exact nI_le (Nat.le_refl _) (by omega)) q⟩)
  by_cases hp : part = 0
  · rw [if_pos hp, if_pos hp]
  · rw [if_neg hp, if_neg hp]
end C3
