/-! the twin's public members: tape, time, sights, images -/
set_option maxRecDepth 100000
theorem laterM (d : Nat) (σ : S8) (b : Int32) : M8 mX8_later (d + 1) [.int b] σ (if b < 0 then -1 else if 1000 < b then -1 else if σ.1 74 + b ≤ 100000 then σ.1 74 + b else -1) (if b < 0 then σ else if 1000 < b then σ else if σ.1 74 + b ≤ 100000 then (upd σ.1 74 (σ.1 74 + b), σ.2) else σ) := by
  have go : ∀ {r σ1}, _ → Tw8 mX8_later (d + 1) [.int b] σ r σ1 := fun h => Tw8.ofR [.int b] (by decide) (fun _ => rfl) (fun _ _ => Nat.le_of_ble_eq_true rfl) (g8_later_0 h)
  by_cases h1 : b < 0
  · rw [if_pos h1, if_pos h1]
    exact ⟨σ, go ⟨fun _ => ⟨rfl, rfl⟩, fun q => absurd h1 q⟩, PK.rf⟩
  rw [if_neg h1, if_neg h1]
  by_cases h2 : 1000 < b
  · rw [if_pos h2, if_pos h2]
    exact ⟨σ, go ⟨fun q => absurd q h1, fun _ => ⟨fun _ => ⟨rfl, rfl⟩, fun q => absurd h2 q⟩⟩, PK.rf⟩
  rw [if_neg h2, if_neg h2]
  by_cases h3 : σ.1 74 + b ≤ 100000
  · rw [if_pos h3, if_pos h3]
    exact ⟨_, go ⟨fun q => absurd q h1, fun _ => ⟨fun q => absurd q h2, fun _ => ⟨fun _ => ⟨rfl, rfl⟩, fun q => absurd h3 q⟩⟩⟩, PK.rf⟩
  · rw [if_neg h3, if_neg h3]
    exact ⟨σ, go ⟨fun q => absurd q h1, fun _ => ⟨fun q => absurd q h2, fun _ => ⟨fun q => absurd q h3, fun _ => ⟨rfl, rfl⟩⟩⟩⟩, PK.rf⟩
theorem endM (d : Nat) (σ : S8) (n : Int32) : M8 mX8_end (d + 1) [.int n] σ (if n < 0 then -1 else if n ≤ σ.1 1 then n else -1) (if n < 0 then σ else if n ≤ σ.1 1 then (upd σ.1 1 n, σ.2) else σ) := by
  have go : ∀ {r σ1}, _ → Tw8 mX8_end (d + 1) [.int n] σ r σ1 := fun h => Tw8.ofR [.int n] (by decide) (fun _ => rfl) (fun _ _ => Nat.le_of_ble_eq_true rfl) (g8_end_0 h)
  by_cases h1 : n < 0
  · rw [if_pos h1, if_pos h1]
    exact ⟨σ, go ⟨fun _ => ⟨rfl, rfl⟩, fun q => absurd h1 q⟩, PK.rf⟩
  rw [if_neg h1, if_neg h1]
  by_cases h2 : n ≤ σ.1 1
  · rw [if_pos h2, if_pos h2]
    exact ⟨_, go ⟨fun q => absurd q h1, fun _ => ⟨fun _ => ⟨rfl, rfl⟩, fun q => absurd h2 q⟩⟩, PK.rf⟩
  · rw [if_neg h2, if_neg h2]
    exact ⟨σ, go ⟨fun q => absurd q h1, fun _ => ⟨fun q => absurd q h2, fun _ => ⟨rfl, rfl⟩⟩⟩, PK.rf⟩
theorem faultM (d : Nat) (σ : S8) (w : Int32) : M8 mX8_fault (d + 1) [.int w] σ (if w = 0 then σ.1 2 else if w = 1 then σ.1 3 else -1) σ :=
  ⟨σ, Tw8.ofR [.int w] (by decide) (fun _ => rfl) (fun _ _ => Nat.le_of_ble_eq_true rfl) (g8_fault_0 ⟨rfl, rfl⟩), PK.rf⟩
theorem liesM (d : Nat) (σ : S8) (i : Int32) {n : Nat} (hn : σ.1 67 = nI n) (h6 : n ≤ 6) : M8 mX8_lies (d + 2) [.int i] σ (if idx i n then σ.2.1 64 i.toNatClampNeg else -2) σ := by
  have go : ∀ {r σ1}, _ → Tw8 mX8_lies (d + 2) [.int i] σ r σ1 := fun h => Tw8.ofR [.int i] (by decide) (fun _ => rfl) (fun _ _ => Nat.le_of_ble_eq_true rfl) (g8_lies_0 h)
  have e : s8_isIn i 0 (σ.1 67 - 1) = bi (idx i n) := by rw [hn]; exact isIn_idx (by omega) i
  cases h1 : idx i n
  · exact ⟨σ, go ⟨fun _ => ⟨rfl, rfl⟩, fun q => absurd (e.trans (bi_f h1)) q⟩, PK.rf⟩
  · obtain ⟨j, hj, ej⟩ := idx_of h1 (by omega)
    exact ⟨σ, go ⟨fun q => absurd (e.symm.trans q) (bi_t h1), fun _ => ⟨by rw [ej]; exact vin (by omega) (by decide), rfl, rfl⟩⟩, PK.rf⟩
def put4 (tp : Nat → Int32) (n : Nat) (v : Int32) : Nat → Int32 := upd (upd (upd (upd tp n ((v >>> (24 &&& 31)) &&& 255)) (n + 1) ((v >>> (16 &&& 31)) &&& 255)) (n + 2) ((v >>> (8 &&& 31)) &&& 255)) (n + 3) ((v >>> (0 &&& 31)) &&& 255)
def tpS (σ : S8) (n : Nat) (tp : Nat → Int32) : S8 := (upd σ.1 1 (nI n), upA σ.2.1 0 tp, σ.2.2)
theorem tpS_tpS (σ : S8) (n m : Nat) (t t' : Nat → Int32) : tpS (tpS σ n t) m t' = tpS σ m t' := by
  show ((upd (upd σ.1 1 (nI n)) 1 (nI m), upA (upA σ.2.1 0 t) 0 t', σ.2.2) : S8) = _
  rw [upd_upd, upA_upA]
  rfl
theorem tpS_1 (σ : S8) (n : Nat) (t : Nat → Int32) : (tpS σ n t).1 1 = nI n := upd_s (f := σ.1) (k := 1) (x := nI n)
theorem tpS_0 (σ : S8) (n : Nat) (t : Nat → Int32) : (tpS σ n t).2.1 0 = t := upA_s (f := σ.2.1) (j := 0) (g := t)
theorem fourStep (d : Nat) (σ σ1 : S8) (r : Option Value) (v k k2 : Int32) (n : Nat) (hk : ¬ k < 0) (hn : σ.1 1 = nI n) (h16 : n < 1600) (e2 : k + (-8) = k2) (h : Rn8 mX8_four (d + 1) 3 [.int v, .int k2] (fun _ => []) (tpS σ (n + 1) (upd (σ.2.1 0) n ((v >>> (k &&& 31)) &&& 255))) r σ1) : Rn8 mX8_four (d + 1) 3 [.int v, .int k] (fun _ => []) σ r σ1 := by
  refine g8_four_3 ⟨fun q => absurd q hk, fun _ => ⟨by rw [hn]; exact vin h16 (by decide), ?_⟩⟩
  rw [hn, nI_1, cl (by omega), e2]
  exact h
theorem fourT8 (d : Nat) (σ : S8) (v : Int32) (n : Nat) (hn : σ.1 1 = nI n) (h16 : n + 4 ≤ 1600) : Tw8 mX8_four (d + 1) [.int v] σ none (tpS σ (n + 4) (put4 (σ.2.1 0) n v)) := by
  refine Tw8.ofR [.int v, U_] (by decide) (fun _ => rfl) (fun _ _ => Nat.le_of_ble_eq_true rfl) (g8_four_0 ?_)
  refine fourStep d _ _ _ v 24 16 n (by decide) hn (by omega) (by decide) ?_
  refine fourStep d _ _ _ v 16 8 (n + 1) (by decide) (tpS_1 _ _ _) (by omega) (by decide) ?_
  rw [tpS_tpS, tpS_0]
  refine fourStep d _ _ _ v 8 0 (n + 2) (by decide) (tpS_1 _ _ _) (by omega) (by decide) ?_
  rw [tpS_tpS, tpS_0]
  refine fourStep d _ _ _ v 0 (-8) (n + 3) (by decide) (tpS_1 _ _ _) (by omega) (by decide) ?_
  rw [tpS_tpS, tpS_0]
  exact g8_four_3 ⟨fun _ => ⟨rfl, rfl⟩, fun q => absurd (by decide) q⟩
/-- five ints as bytes behind what is taped -/
def put20 (tp : Nat → Int32) (n : Nat) (a b c e f : Int32) : Nat → Int32 := put4 (put4 (put4 (put4 (put4 tp n a) (n + 4) b) (n + 8) c) (n + 12) e) (n + 16) f
theorem feedM (d : Nat) (σ : S8) (a b c e f : Int32) {n : Nat} (hn : σ.1 1 = nI n) (h16 : n ≤ 1600) : M8 mX8_feed (d + 2) [.int a, .int b, .int c, .int e, .int f] σ (if n + 20 ≤ 1600 then nI (n + 20) else -1) (if n + 20 ≤ 1600 then tpS σ (n + 20) (put20 (σ.2.1 0) n a b c e f) else σ) := by
  have go : ∀ {r σ1}, _ → Tw8 mX8_feed (d + 2) [.int a, .int b, .int c, .int e, .int f] σ r σ1 := fun h => Tw8.ofR [.int a, .int b, .int c, .int e, .int f] (by decide) (fun _ => rfl) (fun _ _ => Nat.le_of_ble_eq_true rfl) (g8_feed_0 h)
  have e0 : σ.1 1 + 20 = nI (n + 20) := by rw [hn]; exact nI_add n 20
  by_cases h : n + 20 ≤ 1600
  · rw [if_pos h, if_pos h]
    have t1 := fourT8 d σ a n hn (by omega)
    have t2 := fourT8 d _ b (n + 4) (tpS_1 σ (n + 4) (put4 (σ.2.1 0) n a)) (by omega)
    rw [tpS_tpS, tpS_0] at t2
    have t3 := fourT8 d _ c (n + 8) (tpS_1 σ (n + 8) (put4 (put4 (σ.2.1 0) n a) (n + 4) b)) (by omega)
    rw [tpS_tpS, tpS_0] at t3
    have t4 := fourT8 d _ e (n + 12) (tpS_1 σ (n + 12) (put4 (put4 (put4 (σ.2.1 0) n a) (n + 4) b) (n + 8) c)) (by omega)
    rw [tpS_tpS, tpS_0] at t4
    have t5 := fourT8 d _ f (n + 16) (tpS_1 σ (n + 16) (put4 (put4 (put4 (put4 (σ.2.1 0) n a) (n + 4) b) (n + 8) c) (n + 12) e)) (by omega)
    rw [tpS_tpS, tpS_0] at t5
    refine ⟨_, go ⟨fun _ => ⟨_, t1, _, t2, _, t3, _, t4, _, t5, ?_, rfl⟩, fun q => absurd (by rw [e0]; exact nI_le (b := 1600) h (by decide)) q⟩, PK.rf⟩
    rw [tpS_1]
  · rw [if_neg h, if_neg h]
    exact ⟨σ, go ⟨fun q => absurd (by rw [e0] at q; exact q) (nI_ge (a := 1600) (by omega) (by omega)), fun _ => ⟨rfl, rfl⟩⟩, PK.rf⟩
theorem aboutM (d : Nat) (σ : S8) (w : Int32) : M8 mX8_about (d + 1) [.int w] σ (if w = 0 then σ.1 48 else if w = 1 then σ.1 49 else if w = 2 then σ.1 50 else if w = 3 then σ.1 51 else if w = 4 then σ.1 52 else if w = 5 then σ.2.1 59 37 else if w = 6 then σ.2.1 59 38 else if w = 7 then σ.1 62 else if w = 8 then σ.1 63 else if w = 9 then σ.1 73 else if w = 10 then σ.1 74 else if w = 11 then σ.1 1 else if w = 12 then σ.1 21 else if w = 13 then σ.1 67 else -1) σ := by
  refine ⟨σ, Tw8.ofR [.int w] (by decide) (fun _ => rfl) (fun _ _ => Nat.le_of_ble_eq_true rfl) (g8_about_0 ⟨fun h => ⟨?_, rfl⟩, ?_, ?_, ?_, ?_, ?_, ?_, ?_, ?_, ?_, ?_, ?_, ?_, ?_, ?_⟩), PK.rf⟩
  · have ne : ∀ x : Int32, (-1 < x.toInt ∧ x.toInt < 14) → w ≠ x := by
      rintro x hx rfl
      omega
    simp [ne 0 (by decide), ne 1 (by decide), ne 2 (by decide), ne 3 (by decide), ne 4 (by decide), ne 5 (by decide), ne 6 (by decide), ne 7 (by decide), ne 8 (by decide), ne 9 (by decide), ne 10 (by decide), ne 11 (by decide), ne 12 (by decide), ne 13 (by decide)]
  all_goals intro h; subst h; exact ⟨rfl, rfl⟩
theorem untellM (d : Nat) (σ : S8) (i : Int32) {n : Nat} (hn : σ.1 73 = nI n) (h30 : n ≤ 30) : M8 mX8_untell (d + 2) [.int i] σ (if idx i n && decide (σ.2.1 71 i.toNatClampNeg < 0) then 1 else 0) (if idx i n && decide (σ.2.1 71 i.toNatClampNeg < 0) then stA σ 71 (upd (σ.2.1 71) i.toNatClampNeg (σ.1 74)) else σ) := by
  have go : ∀ {r σ1}, _ → Tw8 mX8_untell (d + 2) [.int i] σ r σ1 := fun h => Tw8.ofR [.int i] (by decide) (fun _ => rfl) (fun _ _ => Nat.le_of_ble_eq_true rfl) (g8_untell_0 h)
  have e : s8_isIn i 0 (σ.1 73 - 1) = bi (idx i n) := by rw [hn]; exact isIn_idx (by omega) i
  cases h1 : idx i n
  · exact ⟨σ, go ⟨fun _ => ⟨rfl, rfl⟩, fun q => absurd (e.trans (bi_f h1)) q⟩, PK.rf⟩
  · obtain ⟨j, hj, ej⟩ := idx_of h1 (by omega)
    have b1 : vp_in i 30 := by rw [ej]; exact vin (by omega) (by decide)
    by_cases h2 : σ.2.1 71 i.toNatClampNeg < 0
    · rw [decide_eq_true h2]
      exact ⟨_, go ⟨fun q => absurd (e.symm.trans q) (bi_t h1), fun _ => ⟨b1, fun _ => ⟨rfl, rfl⟩, fun q => absurd h2 q⟩⟩, PK.rf⟩
    · rw [decide_eq_false h2]
      exact ⟨σ, go ⟨fun q => absurd (e.symm.trans q) (bi_t h1), fun _ => ⟨b1, fun q => absurd q h2, fun _ => ⟨rfl, rfl⟩⟩⟩, PK.rf⟩
/-- one more sight -/
def senS (σ : S8) (n : Nat) (days is : Int32) : S8 := (upd σ.1 73 (nI (n + 1)), upA (upA (upA (upA σ.2.1 69 (upd (σ.2.1 69) n days)) 72 (upd (σ.2.1 72) n is)) 70 (upd (σ.2.1 70) n (σ.1 74))) 71 (upd (σ.2.1 71) n (-1)), σ.2.2)
theorem seenM (d : Nat) (σ : S8) (days is : Int32) (hB : isB is) {n : Nat} (hn : σ.1 73 = nI n) (h30 : n ≤ 30) : M8 mX8_seen (d + 2) [.int days, .int is] σ (if s8_isIn days 0 20 = 0 ∨ σ.1 48 = 0 ∨ σ.1 49 = 0 ∨ n = 30 then -1 else nI n) (if s8_isIn days 0 20 = 0 ∨ σ.1 48 = 0 ∨ σ.1 49 = 0 ∨ n = 30 then σ else senS σ n days is) := by
  have go : ∀ {r σ1}, _ → Tw8 mX8_seen (d + 2) [.int days, .int is] σ r σ1 := fun h => Tw8.ofR [.int days, .int is] (by decide) (fun _ => rfl) (fun _ _ => Nat.le_of_ble_eq_true rfl) (g8_seen_0 h)
  by_cases h1 : s8_isIn days 0 20 = 0
  · rw [if_pos (Or.inl h1), if_pos (Or.inl h1)]
    exact ⟨σ, go ⟨fun _ => ⟨rfl, rfl⟩, fun q => absurd h1 q⟩, PK.rf⟩
  by_cases h2 : σ.1 48 = 0
  · rw [if_pos (Or.inr (Or.inl h2)), if_pos (Or.inr (Or.inl h2))]
    exact ⟨σ, go ⟨fun q => absurd q h1, fun _ => ⟨fun _ => ⟨rfl, rfl⟩, fun q => absurd h2 q⟩⟩, PK.rf⟩
  by_cases h3 : σ.1 49 = 0
  · rw [if_pos (Or.inr (Or.inr (Or.inl h3))), if_pos (Or.inr (Or.inr (Or.inl h3)))]
    exact ⟨σ, go ⟨fun q => absurd q h1, fun _ => ⟨fun q => absurd q h2, fun _ => ⟨fun _ => ⟨rfl, rfl⟩, fun q => absurd h3 q⟩⟩⟩, PK.rf⟩
  have e30 : σ.1 73 = 30 ↔ n = 30 := by
    rw [hn]
    exact nI_eq (b := 30) (by omega) (by decide)
  by_cases h4 : n = 30
  · rw [if_pos (Or.inr (Or.inr (Or.inr h4))), if_pos (Or.inr (Or.inr (Or.inr h4)))]
    exact ⟨σ, go ⟨fun q => absurd q h1, fun _ => ⟨fun q => absurd q h2, fun _ => ⟨fun q => absurd q h3, fun _ => ⟨fun q => absurd (e30.mpr h4) q, fun _ => ⟨rfl, rfl⟩⟩⟩⟩⟩, PK.rf⟩
  · have hno : ¬ (s8_isIn days 0 20 = 0 ∨ σ.1 48 = 0 ∨ σ.1 49 = 0 ∨ n = 30) := by
      rintro (h | h | h | h)
      · exact h1 h
      · exact h2 h
      · exact h3 h
      · exact h4 h
    rw [if_neg hno, if_neg hno]
    have b1 : vp_in (σ.1 73) 30 := by rw [hn]; exact vin (by omega) (by decide)
    refine ⟨senS σ n days is, go ⟨fun q => absurd q h1, fun _ => ⟨fun q => absurd q h2, fun _ => ⟨fun q => absurd q h3, fun _ => ⟨fun _ => ⟨b1, ⟨b1, hB⟩, ?_, ?_⟩, fun q => absurd (e30.mp q) h4⟩⟩⟩⟩, PK.rf⟩
    · rw [hn, nI_1, nI_pred]
    · rw [hn, nI_1, cl (by omega)]
      rfl
theorem isBox_idx (b : Int32) : s8_isBox b = bi (idx b 3) := by
  have h := isIn_idx (n := 3) (by decide) b
  rw [← h]
  unfold s8_isBox s8_isIn
  by_cases h1 : b < 0
  · rw [if_pos h1, if_pos h1]
  · rw [if_neg h1, if_neg h1]
    have e : (3 ≤ b) ↔ (nI 3 - 1 < b) := by
      rw [Int32.le_iff_toInt_le, Int32.lt_iff_toInt_lt]
      have a1 : (3 : Int32).toInt = 3 := rfl
      have a2 : (nI 3 - 1).toInt = 2 := rfl
      omega
    by_cases h2 : 3 ≤ b
    · rw [if_pos h2, if_pos (e.mp h2)]
    · rw [if_neg h2, if_neg (fun q => h2 (e.mpr q))]
def imgS (σ : S8) (b : Nat) : S8 := (σ.1, upA (upA σ.2.1 77 (upd (σ.2.1 77) b 1)) 78 (putW (σ.2.1 78) (σ.2.1 59) b), σ.2.2)
theorem imageM (d : Nat) (σ : S8) (b : Int32) : M8 mX8_image (d + 2) [.int b] σ (if idx b 3 then σ.2.1 59 37 else -1) (if idx b 3 then imgS σ b.toNatClampNeg else σ) := by
  have go : ∀ {r σ1}, _ → Tw8 mX8_image (d + 2) [.int b] σ r σ1 := fun h => Tw8.ofR [.int b, U_] (by decide) (fun _ => rfl) (fun _ _ => Nat.le_of_ble_eq_true rfl) (g8_image_0 h)
  cases h1 : idx b 3
  · exact ⟨σ, go ⟨fun q => absurd ((isBox_idx b).trans (bi_f h1)) q, fun _ => ⟨rfl, rfl⟩⟩, PK.rf⟩
  obtain ⟨j, hj, ej⟩ := idx_of h1 (by decide)
  have cj : b.toNatClampNeg = j := by rw [ej]; exact cl (by omega)
  rw [cj]
  obtain ⟨_, τ, ⟨a1, a2⟩, a3⟩ := iter8 (A := Unit) (fun k _ τ r σ1 => Rn8 mX8_image (d + 2) 18 [.int b, .int (nI k)] (fun _ => []) τ r σ1) (fun k _ τ => kp [78] (stA σ 77 (upd (σ.2.1 77) j 1)) τ ∧ ∀ q, τ.2.1 78 q = if 39 * j ≤ q ∧ q < 39 * j + k then σ.2.1 59 (q - 39 * j) else σ.2.1 78 q) 39 (by
    rintro k ⟨⟩ τ hk ⟨q1, q2⟩
    have e59 : τ.2.1 59 = σ.2.1 59 := by rw [q1.2.2 59 (by decide), stA_n (by decide)]
    refine ⟨(), _, ⟨kp1 (j := 78) (g := upd (τ.2.1 78) (39 * j + k) (σ.2.1 59 k)) q1 (by decide), fun q => ?_⟩, fun r σ1 h => ?_⟩
    · show upA τ.2.1 78 (upd (τ.2.1 78) (39 * j + k) (σ.2.1 59 k)) 78 q = _
      rw [upA_s]
      by_cases e : q = 39 * j + k
      · subst e
        rw [upd_s, if_pos ⟨by omega, by omega⟩, Nat.add_sub_cancel_left]
      · rw [upd_n e, q2]
        by_cases h9 : 39 * j ≤ q ∧ q < 39 * j + k
        · rw [if_pos h9, if_pos ⟨h9.1, by omega⟩]
        · rw [if_neg h9, if_neg (fun z => h9 ⟨z.1, by omega⟩)]
    · refine g8_image_18 ⟨fun q => absurd q (nI_ge (b := 39) hk (by decide)), fun _ => ⟨vin hk (by decide), by rw [ej, n39]; exact vin (by omega) (by decide), ?_⟩⟩
      rw [nI_1, ej, n39, cl (by omega), cl (by omega), e59, ← ej]
      exact h) 0 () (stA σ 77 (upd (σ.2.1 77) j 1)) (Nat.zero_le _) ⟨kp.rf, fun q => by rw [if_neg (by omega), stA_n (by decide)]⟩
  have e59 : τ.2.1 59 = σ.2.1 59 := by rw [a1.2.2 59 (by decide), stA_n (by decide)]
  have h9 : Tw8 mX8_image (d + 2) [.int b] σ (some (.int (σ.2.1 59 37))) τ := go ⟨fun _ => ⟨by rw [ej]; exact vin hj (by decide), by rw [cj]; exact a3 _ _ (g8_image_18 ⟨fun _ => ⟨by rw [e59], rfl⟩, fun q => absurd (by decide) q⟩)⟩, fun q => absurd ((isBox_idx b).symm.trans q) (bi_t h1)⟩
  exact ⟨imgS σ j, h9.post (kp_eq8 a1 (fun i _ => a2 i)), PK.rf⟩
def bakS (σ : S8) (b : Nat) : S8 := (upd (upd σ.1 62 0) 63 0, upA σ.2.1 59 (getW (σ.2.1 78) b), σ.2.2)
theorem backM (d : Nat) (σ : S8) (b : Int32) : M8 mX8_back (d + 2) [.int b] σ (if idx b 3 && decide (¬ σ.2.1 77 b.toNatClampNeg = 0) then σ.2.1 78 (39 * b.toNatClampNeg + 37) else -1) (if idx b 3 && decide (¬ σ.2.1 77 b.toNatClampNeg = 0) then bakS σ b.toNatClampNeg else σ) := by
  have go : ∀ {r σ1}, _ → Tw8 mX8_back (d + 2) [.int b] σ r σ1 := fun h => Tw8.ofR [.int b, U_] (by decide) (fun _ => rfl) (fun _ _ => Nat.le_of_ble_eq_true rfl) (g8_back_0 h)
  cases h1 : idx b 3
  · exact ⟨σ, go ⟨fun _ => ⟨rfl, rfl⟩, fun q => absurd ((isBox_idx b).trans (bi_f h1)) q⟩, PK.rf⟩
  obtain ⟨j, hj, ej⟩ := idx_of h1 (by decide)
  have cj : b.toNatClampNeg = j := by rw [ej]; exact cl (by omega)
  rw [cj]
  have b3 : vp_in b 3 := by rw [ej]; exact vin hj (by decide)
  by_cases h2 : σ.2.1 77 j = 0
  · rw [decide_eq_false (fun q => q h2)]
    exact ⟨σ, go ⟨fun q => absurd ((isBox_idx b).symm.trans q) (bi_t h1), fun _ => ⟨b3, fun q => absurd (by rw [cj]; exact h2) q, fun _ => ⟨rfl, rfl⟩⟩⟩, PK.rf⟩
  rw [decide_eq_true h2]
  obtain ⟨_, τ, ⟨a1, a2⟩, a3⟩ := iter8 (A := Unit) (fun k _ τ r σ1 => Rn8 mX8_back (d + 2) 20 [.int b, .int (nI k)] (fun _ => []) τ r σ1) (fun k _ τ => kp [59] σ τ ∧ ∀ q, τ.2.1 59 q = if q < k then σ.2.1 78 (39 * j + q) else σ.2.1 59 q) 39 (by
    rintro k ⟨⟩ τ hk ⟨q1, q2⟩
    refine ⟨(), _, ⟨kp1 (j := 59) (g := upd (τ.2.1 59) k (σ.2.1 78 (39 * j + k))) q1 (by decide), fun q => ?_⟩, fun r σ1 h => ?_⟩
    · show upA τ.2.1 59 (upd (τ.2.1 59) k (σ.2.1 78 (39 * j + k))) 59 q = _
      rw [upA_s]
      by_cases e : q = k
      · subst e
        rw [upd_s, if_pos (by omega)]
      · rw [upd_n e, q2]
        by_cases h9 : q < k
        · rw [if_pos h9, if_pos (by omega)]
        · rw [if_neg h9, if_neg (by omega)]
    · refine g8_back_20 ⟨fun q => absurd q (nI_ge (b := 39) hk (by decide)), fun _ => ⟨by rw [ej, n39]; exact vin (by omega) (by decide), vin hk (by decide), ?_⟩⟩
      rw [nI_1, ej, n39, cl (by omega), cl (by omega), q1.2.2 78 (by decide), ← ej]
      exact h) 0 () σ (Nat.zero_le _) ⟨kp.rf, fun q => by rw [if_neg (by omega)]⟩
  have h9 : Tw8 mX8_back (d + 2) [.int b] σ (some (.int (σ.2.1 78 (39 * j + 37)))) (upd (upd τ.1 62 0) 63 0, τ.2.1, τ.2.2.1, τ.2.2.2) := go ⟨fun q => absurd ((isBox_idx b).symm.trans q) (bi_t h1), fun _ => ⟨b3, fun _ => a3 _ _ (g8_back_20 ⟨fun _ => ⟨by rw [a2, if_pos (by decide)], rfl⟩, fun q => absurd (by decide) q⟩), fun q => absurd (by rw [cj] at q; exact q) h2⟩⟩
  refine ⟨bakS σ j, h9.post ⟨by show upd (upd τ.1 62 0) 63 0 = _; rw [a1.1]; rfl, a1.2.1, fun q i hi => ?_⟩, PK.rf⟩
  show τ.2.1 q i = upA σ.2.1 59 (getW (σ.2.1 78) j) q i
  by_cases e : q = 59
  · subst e
    rw [upA_s, a2, if_pos (show i < 39 from hi)]
    rfl
  · rw [upA_n e, a1.2.2 q (by simpa using e)]
