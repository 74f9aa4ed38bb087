/-! the twin's public members: asking -/
set_option maxRecDepth 100000
/-- what lasts: ints and arrays -/
def pI : List Nat := [1, 2, 3, 18, 21, 25, 48, 49, 50, 51, 52, 53, 62, 63, 67, 73, 74]
def pA : List Nat := [0, 13, 14, 34, 35, 36, 37, 38, 39, 40, 59, 61, 64, 69, 70, 71, 72, 77, 78]
def PK (σ σ1 : S8) : Prop := (∀ j ∈ pI, σ1.1 j = σ.1 j) ∧ ∀ j ∈ pA, σ1.2.1 j = σ.2.1 j
theorem PK.rf {σ : S8} : PK σ σ := ⟨fun _ _ => rfl, fun _ _ => rfl⟩
theorem PK.tr {σ σ1 σ2 : S8} (h : PK σ σ1) (h2 : PK σ1 σ2) : PK σ σ2 := ⟨fun j hj => (h2.1 j hj).trans (h.1 j hj), fun j hj => (h2.2 j hj).trans (h.2 j hj)⟩
theorem PK.of {A : List Nat} {σ σ1 : S8} (h : kp A σ σ1) (hA : ∀ j ∈ pA, j ∉ A) : PK σ σ1 := ⟨fun j _ => by rw [h.1], fun j hj => h.2.2 j (hA j hj)⟩
/-- a member that answers x and leaves what lasts as in τ -/
def M8 (M : MD) (d : Nat) (as : List Value) (σ : S8) (x : Int32) (τ : S8) : Prop := ∃ σ1, Tw8 M d as σ (some (.int x)) σ1 ∧ PK τ σ1
/-- a place below n -/
def idx (v : Int32) (n : Nat) : Bool := decide (0 ≤ v.toInt ∧ v.toInt < n)
theorem nI_sub1 {n : Nat} (hn : n ≤ 1000) : (nI n - 1).toInt = (n : Int) - 1 := by
  have := pk_sub_toInt (a := n) (b := 1) (by omega) (by omega)
  exact this
theorem isIn_idx {n : Nat} (hn : n ≤ 1000) (v : Int32) : s8_isIn v 0 (nI n - 1) = bi (idx v n) := by
  unfold s8_isIn idx bi
  have e := nI_sub1 hn
  by_cases h1 : v < 0
  · rw [if_pos h1]
    rw [Int32.lt_iff_toInt_lt] at h1
    have h2 : v.toInt < 0 := h1
    rw [if_neg]
    simp
    omega
  · rw [if_neg h1]
    rw [Int32.lt_iff_toInt_lt] at h1
    have h2 : ¬ v.toInt < 0 := h1
    by_cases h3 : nI n - 1 < v
    · rw [if_pos h3]
      rw [Int32.lt_iff_toInt_lt, e] at h3
      rw [if_neg]
      simp
      omega
    · rw [if_neg h3]
      rw [Int32.lt_iff_toInt_lt, e] at h3
      rw [if_pos]
      simp
      omega
theorem idx_of {v : Int32} {n : Nat} (h : idx v n = true) (hn : n ≤ 1000) : ∃ j, j < n ∧ v = nI j := by
  have h1 := of_decide_eq_true h
  refine ⟨v.toInt.toNat, by omega, Int32.toInt_inj.mp ?_⟩
  rw [nI_toInt (by omega)]
  omega
theorem idx_nI {j n : Nat} (h : j < n) (hn : n ≤ 1000) : idx (nI j) n = true := by
  unfold idx
  rw [nI_toInt (by omega)]
  simp
  omega
theorem isManT8 (d : Nat) (σ : S8) (v : Int32) {nm nc : Nat} (hR : R8 σ nm nc) : Tw8 mX8_isMan (d + 2) [.int v] σ (some (.int (bi (idx v nm)))) σ := by
  refine Tw8.ofR [.int v] (by decide) (fun _ => rfl) (fun _ _ => Nat.le_of_ble_eq_true rfl) (g8_isMan_0 ⟨?_, rfl⟩)
  have := hR.2.1
  rw [hR.1, isIn_idx (by omega)]
theorem isCoatT8 (d : Nat) (σ : S8) (v : Int32) {nm nc : Nat} (hR : R8 σ nm nc) : Tw8 mX8_isCoat (d + 2) [.int v] σ (some (.int (bi (idx v nc)))) σ := by
  refine Tw8.ofR [.int v] (by decide) (fun _ => rfl) (fun _ _ => Nat.le_of_ble_eq_true rfl) (g8_isCoat_0 ⟨?_, rfl⟩)
  have := hR.2.2.2.1
  rw [hR.2.2.1, isIn_idx (by omega)]
theorem bi_f {b : Bool} (h : b = false) : bi b = 0 := by rw [h]; rfl
theorem bi_t {b : Bool} (h : b = true) : ¬ bi b = 0 := by rw [h]; decide
theorem fillPK {σ : S8} : PK σ (stA σ 60 (σ.2.1 59)) := PK.of (stA_kp (A := [60]) (by decide)) (by decide)
theorem misfitM (d : Nat) (σ : S8) (m c : Int32) {nm nc : Nat} (hR : R8 σ nm nc) : M8 mX8_misfit (d + 4) [.int m, .int c] σ (if idx m nm && idx c nc then misE (env8 σ) (σ.2.1 59) m.toNatClampNeg c.toNatClampNeg else -1) σ := by
  have h6 := hR.2.1
  have hc6 := hR.2.2.2.1
  have k1 : kp [60] σ (stA σ 60 (σ.2.1 59)) := stA_kp (by decide)
  have hR1 := hR.kp k1 (by decide) (by decide)
  have go : ∀ {r σ1}, _ → Tw8 mX8_misfit (d + 4) [.int m, .int c] σ r σ1 := fun h => Tw8.ofR [.int m, .int c] (by decide) (fun _ => rfl) (fun _ _ => Nat.le_of_ble_eq_true rfl) (g8_misfit_0 ⟨_, fillX (d + 2) σ, _, _, isManT8 (d + 1) _ m hR1, h⟩)
  cases h1 : idx m nm
  · refine ⟨_, go ⟨fun _ => ⟨?_, rfl⟩, fun q => absurd (bi_f h1) q⟩, fillPK⟩
    rfl
  cases h2 : idx c nc
  · refine ⟨_, go ⟨fun q => absurd q (bi_t h1), fun _ => ⟨_, _, isCoatT8 (d + 1) _ c hR1, fun _ => ⟨?_, rfl⟩, fun q => absurd (bi_f h2) q⟩⟩, fillPK⟩
    rfl
  · obtain ⟨m', hm, em⟩ := idx_of h1 (by omega)
    obtain ⟨c', hc, ec⟩ := idx_of h2 (by omega)
    obtain ⟨σ1, q1, q2⟩ := misfitT8 d (stA σ 60 (σ.2.1 59)) m' c' (by omega) (by omega) hR1.2.2.2.2
    refine ⟨σ1, go ⟨fun q => absurd q (bi_t h1), fun _ => ⟨_, _, isCoatT8 (d + 1) _ c hR1, fun q => absurd q (bi_t h2), fun _ => ⟨_, _, by rw [em, ec]; exact q1, ?_, rfl⟩⟩⟩, fillPK.tr (PK.of q2 (by decide))⟩
    rw [em, ec, cl (by omega), cl (by omega)]
    show some (Value.int (misE (env8 σ) (σ.2.1 59) m' c')) = some (Value.int (misE (env8 (stA σ 60 (σ.2.1 59))) ((stA σ 60 (σ.2.1 59)).2.1 60) m' c'))
    rw [stA_s, env8_kp k1 (by decide) (by decide) (by decide)]
/-- a man's number -/
def manE (σ : S8) (nm nc : Nat) (m what : Int32) : Int32 :=
  if idx m nm then (if what = 0 then σ.2.1 34 m.toNatClampNeg else if what = 1 then σ.2.1 59 m.toNatClampNeg else if what = 2 then σ.2.1 36 m.toNatClampNeg else if what = 3 then σ.2.1 59 (6 + m.toNatClampNeg) else if what = 4 then set8 (fitE (env8 σ) (σ.2.1 59) m.toNatClampNeg) nc else -2) else -2
theorem manM (d : Nat) (σ : S8) (m what : Int32) {nm nc : Nat} (hR : R8 σ nm nc) : M8 mX8_man (d + 6) [.int m, .int what] σ (manE σ nm nc m what) σ := by
  have h6 := hR.2.1
  have hc6 := hR.2.2.2.1
  have k1 : kp [60] σ (stA σ 60 (σ.2.1 59)) := stA_kp (by decide)
  have hR1 := hR.kp k1 (by decide) (by decide)
  have go : ∀ {r σ1}, _ → Tw8 mX8_man (d + 6) [.int m, .int what] σ r σ1 := fun h => Tw8.ofR [.int m, .int what] (by decide) (fun _ => rfl) (fun _ _ => Nat.le_of_ble_eq_true rfl) (g8_man_0 ⟨_, _, isManT8 (d + 3) σ m hR, h⟩)
  unfold manE
  cases h1 : idx m nm
  · exact ⟨_, go ⟨fun q => absurd (bi_f h1) q, fun _ => ⟨rfl, rfl⟩⟩, PK.rf⟩
  · obtain ⟨m', hm, em⟩ := idx_of h1 (by omega)
    have cm : m.toNatClampNeg = m' := by rw [em]; exact cl (by omega)
    rw [if_pos rfl, cm]
    have b1 : vp_in m 6 := by rw [em]; exact vin (by omega) (by decide)
    have b2 : vp_in m 39 := by rw [em]; exact vin (by omega) (by decide)
    have b3 : vp_in (6 + m) 39 := by rw [em, n6]; exact vin (by omega) (by decide)
    have c6 : (6 + m).toNatClampNeg = 6 + m' := by rw [em, n6]; exact cl (by omega)
    obtain ⟨σ1, q1, q2⟩ := coatsForT8 d (stA σ 60 (σ.2.1 59)) hR1 (show m' < 6 by omega)
    rw [stA_s, env8_kp k1 (by decide) (by decide) (by decide)] at q1
    have go2 : ∀ {r σ1}, _ → Tw8 mX8_man (d + 6) [.int m, .int what] σ r σ1 := fun h => go ⟨fun _ => ⟨_, fillX (d + 4) σ, h⟩, fun q => absurd q (bi_t h1)⟩
    by_cases w0 : what = 0
    · subst w0
      exact ⟨_, go2 ⟨fun q => absurd q (by decide), fun _ => ⟨b1, by rw [if_pos rfl, cm, stA_n (by decide)], rfl⟩, fun q => absurd q (by decide), fun q => absurd q (by decide), fun q => absurd q (by decide), fun q => absurd q (by decide)⟩, fillPK⟩
    by_cases w1 : what = 1
    · subst w1
      exact ⟨_, go2 ⟨fun q => absurd q (by decide), fun q => absurd q (by decide), fun _ => ⟨b2, by rw [if_neg w0, if_pos rfl, cm, stA_s], rfl⟩, fun q => absurd q (by decide), fun q => absurd q (by decide), fun q => absurd q (by decide)⟩, fillPK⟩
    by_cases w2 : what = 2
    · subst w2
      exact ⟨_, go2 ⟨fun q => absurd q (by decide), fun q => absurd q (by decide), fun q => absurd q (by decide), fun _ => ⟨b1, by rw [if_neg w0, if_neg w1, if_pos rfl, cm, stA_n (by decide)], rfl⟩, fun q => absurd q (by decide), fun q => absurd q (by decide)⟩, fillPK⟩
    by_cases w3 : what = 3
    · subst w3
      exact ⟨_, go2 ⟨fun q => absurd q (by decide), fun q => absurd q (by decide), fun q => absurd q (by decide), fun q => absurd q (by decide), fun _ => ⟨b3, by rw [if_neg w0, if_neg w1, if_neg w2, if_pos rfl, c6, stA_s], rfl⟩, fun q => absurd q (by decide)⟩, fillPK⟩
    by_cases w4 : what = 4
    · subst w4
      exact ⟨σ1, go2 ⟨fun q => absurd q (by decide), fun q => absurd q (by decide), fun q => absurd q (by decide), fun q => absurd q (by decide), fun q => absurd q (by decide), fun _ => ⟨_, _, by rw [em]; exact q1, by rw [if_neg w0, if_neg w1, if_neg w2, if_neg w3, if_pos rfl], rfl⟩⟩, fillPK.tr (PK.of q2 (by decide))⟩
    · rw [if_neg w0, if_neg w1, if_neg w2, if_neg w3, if_neg w4]
      exact ⟨_, go2 ⟨fun _ => ⟨rfl, rfl⟩, fun q => absurd q w0, fun q => absurd q w1, fun q => absurd q w2, fun q => absurd q w3, fun q => absurd q w4⟩, fillPK⟩
def coatE (σ : S8) (nm nc : Nat) (c what : Int32) : Int32 :=
  if idx c nc then (if what = 0 then σ.2.1 59 (12 + c.toNatClampNeg) else if what = 1 then σ.2.1 59 (18 + c.toNatClampNeg) else if what = 2 then σ.2.1 59 (24 + c.toNatClampNeg) else if what = 3 then σ.2.1 59 (30 + c.toNatClampNeg) else if what = 4 then (σ.2.1 59 36 >>> (c &&& 31)) &&& 1 else if what = 5 then wearer8 (σ.2.1 59) c nm else -2) else -2
theorem coatM (d : Nat) (σ : S8) (c what : Int32) {nm nc : Nat} (hR : R8 σ nm nc) : M8 mX8_coat (d + 3) [.int c, .int what] σ (coatE σ nm nc c what) σ := by
  have h6 := hR.2.1
  have hc6 := hR.2.2.2.1
  have k1 : kp [60] σ (stA σ 60 (σ.2.1 59)) := stA_kp (by decide)
  have hR1 := hR.kp k1 (by decide) (by decide)
  have go : ∀ {r σ1}, _ → Tw8 mX8_coat (d + 3) [.int c, .int what] σ r σ1 := fun h => Tw8.ofR [.int c, .int what] (by decide) (fun _ => rfl) (fun _ _ => Nat.le_of_ble_eq_true rfl) (g8_coat_0 ⟨_, _, isCoatT8 d σ c hR, h⟩)
  unfold coatE
  cases h1 : idx c nc
  · exact ⟨_, go ⟨fun q => absurd (bi_f h1) q, fun _ => ⟨rfl, rfl⟩⟩, PK.rf⟩
  · obtain ⟨c', hc, ec⟩ := idx_of h1 (by omega)
    have cc : c.toNatClampNeg = c' := by rw [ec]; exact cl (by omega)
    rw [if_pos rfl, cc]
    have b1 : vp_in (12 + c) 39 := by rw [ec, n12]; exact vin (by omega) (by decide)
    have b2 : vp_in (18 + c) 39 := by rw [ec, n18]; exact vin (by omega) (by decide)
    have b3 : vp_in (24 + c) 39 := by rw [ec, n24]; exact vin (by omega) (by decide)
    have b4 : vp_in (30 + c) 39 := by rw [ec, n30]; exact vin (by omega) (by decide)
    have c1 : (12 + c).toNatClampNeg = 12 + c' := by rw [ec, n12]; exact cl (by omega)
    have c2 : (18 + c).toNatClampNeg = 18 + c' := by rw [ec, n18]; exact cl (by omega)
    have c3 : (24 + c).toNatClampNeg = 24 + c' := by rw [ec, n24]; exact cl (by omega)
    have c4 : (30 + c).toNatClampNeg = 30 + c' := by rw [ec, n30]; exact cl (by omega)
    have hw := wearerT8 (d + 1) (stA σ 60 (σ.2.1 59)) c nm hR1.1 h6
    rw [stA_s] at hw
    have go2 : ∀ {r σ1}, _ → Tw8 mX8_coat (d + 3) [.int c, .int what] σ r σ1 := fun h => go ⟨fun _ => ⟨_, fillX (d + 1) σ, h⟩, fun q => absurd q (bi_t h1)⟩
    by_cases w0 : what = 0
    · subst w0
      exact ⟨_, go2 ⟨fun q => absurd q (by decide), fun _ => ⟨b1, by rw [if_pos rfl, c1, stA_s], rfl⟩, fun q => absurd q (by decide), fun q => absurd q (by decide), fun q => absurd q (by decide), fun q => absurd q (by decide), fun q => absurd q (by decide)⟩, fillPK⟩
    by_cases w1 : what = 1
    · subst w1
      exact ⟨_, go2 ⟨fun q => absurd q (by decide), fun q => absurd q (by decide), fun _ => ⟨b2, by rw [if_neg w0, if_pos rfl, c2, stA_s], rfl⟩, fun q => absurd q (by decide), fun q => absurd q (by decide), fun q => absurd q (by decide), fun q => absurd q (by decide)⟩, fillPK⟩
    by_cases w2 : what = 2
    · subst w2
      exact ⟨_, go2 ⟨fun q => absurd q (by decide), fun q => absurd q (by decide), fun q => absurd q (by decide), fun _ => ⟨b3, by rw [if_neg w0, if_neg w1, if_pos rfl, c3, stA_s], rfl⟩, fun q => absurd q (by decide), fun q => absurd q (by decide), fun q => absurd q (by decide)⟩, fillPK⟩
    by_cases w3 : what = 3
    · subst w3
      exact ⟨_, go2 ⟨fun q => absurd q (by decide), fun q => absurd q (by decide), fun q => absurd q (by decide), fun q => absurd q (by decide), fun _ => ⟨b4, by rw [if_neg w0, if_neg w1, if_neg w2, if_pos rfl, c4, stA_s], rfl⟩, fun q => absurd q (by decide), fun q => absurd q (by decide)⟩, fillPK⟩
    by_cases w4 : what = 4
    · subst w4
      exact ⟨_, go2 ⟨fun q => absurd q (by decide), fun q => absurd q (by decide), fun q => absurd q (by decide), fun q => absurd q (by decide), fun q => absurd q (by decide), fun _ => ⟨by rw [if_neg w0, if_neg w1, if_neg w2, if_neg w3, if_pos rfl, stA_s], rfl⟩, fun q => absurd q (by decide)⟩, fillPK⟩
    by_cases w5 : what = 5
    · subst w5
      exact ⟨_, go2 ⟨fun q => absurd q (by decide), fun q => absurd q (by decide), fun q => absurd q (by decide), fun q => absurd q (by decide), fun q => absurd q (by decide), fun q => absurd q (by decide), fun _ => ⟨_, _, hw, by rw [if_neg w0, if_neg w1, if_neg w2, if_neg w3, if_neg w4, if_pos rfl], rfl⟩⟩, fillPK⟩
    · rw [if_neg w0, if_neg w1, if_neg w2, if_neg w3, if_neg w4, if_neg w5]
      exact ⟨_, go2 ⟨fun _ => ⟨rfl, rfl⟩, fun q => absurd q w0, fun q => absurd q w1, fun q => absurd q w2, fun q => absurd q w3, fun q => absurd q w4, fun q => absurd q w5⟩, fillPK⟩
