/-! the twin's reader: a coat; small parts of the formula -/
set_option maxRecDepth 100000
set_option maxHeartbeats 200000
def rcF (σ : S8) (n : Nat) : S8 := cnF 42 33 n (opF (opA (tdA (tdA (nmF σ 6 n) 1952541804 99 30 n) 2003395685 99 31 n) 1936023917 20 32 n) 2003792494 99)
theorem okR_rc {σ : S8} {n : Nat} (h : okR σ) : okR (rcF σ n) := okR_cn (okR_op (okR_opA (okR_tdA (okR_tdA (okR_nm h))))) (by decide) (by decide)
theorem readCoatG (d : Nat) {σ σ1 : S8} {p3 p7 p11 p15 : Int32 × S8} {n : Nat} (h5 : n ≤ 5) (hn : σ.1 42 = nI n) (t1 : Tw8 mX8_newName (d + 5) [.int 6, .int (nI n)] σ none σ1) (t2 : Tw8 mX8_told (d + 5) [.long 1952541804, .int 99] σ1 (some (.int p3.1)) p3.2) (t3 : Tw8 mX8_told (d + 5) [.long 2003395685, .int 99] (setA p3.2 30 n p3.1) (some (.int p7.1)) p7.2) (t4 : Tw8 mX8_option (d + 5) [.long 1936023917, .int 20] (setA p7.2 31 n p7.1) (some (.int p11.1)) p11.2) (t5 : Tw8 mX8_option (d + 5) [.long 2003792494, .int 99] (setA p11.2 32 n p11.1) (some (.int p15.1)) p15.2) (e1 : σ1.1 42 = nI n) (e2 : p3.2.1 42 = nI n) (e3 : p7.2.1 42 = nI n) (e4 : p11.2.1 42 = nI n) (e5 : p15.2.1 42 = nI n) : Tw8 mX8_readCoat (d + 6) [] σ none (cnF 42 33 n p15) := by
  have bn : vp_in (nI n) 6 := vin (by omega) (by decide)
  have cn : (nI n).toNatClampNeg = n := cl (by omega)
  refine Tw8.ofR [] (by decide) (fun _ => rfl) (fun _ _ => Nat.le_of_ble_eq_true rfl) (g8_readCoat_0 ?_)
  unfold cnF
  rw [hn]
  refine ⟨σ1, t1, p3.1, p3.2, t2, by rw [e1]; exact bn, p7.1, p7.2, by rw [e1, cn]; exact t3, by rw [e2]; exact bn, p11.1, p11.2, by rw [e2, cn]; exact t4, by rw [e3]; exact bn, p15.1, p15.2, by rw [e3, cn]; exact t5, by rw [e4]; exact bn, fun h => ?_, fun h => ?_⟩
  · rw [if_neg h, e4, cn]
    exact ⟨rfl, rfl⟩
  · rw [if_pos h, e4, e5, cn, nI_1]
    exact ⟨rfl, rfl⟩
theorem readCoatT8 (d : Nat) {σ : S8} {n : Nat} (hk : okR σ) (hn : σ.1 42 = nI n) (h5 : n ≤ 5) : Tw8 mX8_readCoat (d + 6) [] σ none (rcF σ n) := by
  have k1 := okR_nm (a := 6) (n := n) hk
  have t1 := newNameT8 (d + 2) (a := 6) (n := n) hk (by decide) h5
  have e1 : (nmF σ 6 n).1 42 = nI n := (kI_nm σ 6 n 42 (by decide)).trans hn
  unfold rcF
  generalize nmF σ 6 n = σ1 at *
  have t2 := toldT8 (d + 1) 1952541804 99 k1
  have e2 : (tdF σ1 1952541804 99).2.1 42 = nI n := ((kR_td σ1 1952541804 99).1 42 (by decide)).trans e1
  have k2 : okR (tdA σ1 1952541804 99 30 n) := okR_tdA k1
  unfold tdA at k2 ⊢
  generalize tdF σ1 1952541804 99 = p3 at *
  have t3 := toldT8 (d + 1) 2003395685 99 k2
  have e3 : (tdF (setA p3.2 30 n p3.1) 2003395685 99).2.1 42 = nI n := ((kR_td (setA p3.2 30 n p3.1) 2003395685 99).1 42 (by decide)).trans e2
  have k3 : okR (tdA (setA p3.2 30 n p3.1) 2003395685 99 31 n) := okR_tdA k2
  unfold tdA at k3
  generalize tdF (setA p3.2 30 n p3.1) 2003395685 99 = p7 at *
  have t4 := optionT8 d 1936023917 20 k3
  have e4 : (opF (setA p7.2 31 n p7.1) 1936023917 20).2.1 42 = nI n := ((kR_op (setA p7.2 31 n p7.1) 1936023917 20).1 42 (by decide)).trans e3
  have k4 : okR (opA (setA p7.2 31 n p7.1) 1936023917 20 32 n) := okR_opA k3
  unfold opA at k4 ⊢
  generalize opF (setA p7.2 31 n p7.1) 1936023917 20 = p11 at *
  have t5 := optionT8 d 2003792494 99 k4
  have e5 : (opF (setA p11.2 32 n p11.1) 2003792494 99).2.1 42 = nI n := ((kR_op (setA p11.2 32 n p11.1) 2003792494 99).1 42 (by decide)).trans e4
  generalize opF (setA p11.2 32 n p11.1) 2003792494 99 = p15 at *
  exact readCoatG d h5 hn t1 t2 t3 t4 t5 e1 e2 e3 e4 e5
/-- which is asked, -1 if none -/
def askF (σ : S8) : Int32 := if σ.1 6 = 1 then (if lg_cmp σ.2.2.1 499984590964 = 0 then 0 else if lg_cmp σ.2.2.1 465726042981 = 0 then 1 else if lg_cmp σ.2.2.1 495673373300 = 0 then 2 else if lg_cmp σ.2.2.1 1819242087 = 0 then 3 else if lg_cmp σ.2.2.1 2003792494 = 0 then 4 else if lg_cmp σ.2.2.1 6578553 = 0 then 5 else -1) else -1
theorem askedT8 (d : Nat) (σ : S8) : Tw8 mX8_asked (d + 1) [] σ (some (.int (askF σ))) σ := by
  refine Tw8.ofR [] (by decide) (fun _ => rfl) (fun _ _ => Nat.le_of_ble_eq_true rfl) (g8_asked_0 ?_)
  unfold askF
  refine ⟨fun h => ⟨fun h1 => ⟨fun h2 => ⟨fun h3 => ⟨fun h4 => ⟨fun h5 => ⟨?_, rfl⟩, fun h5 => ⟨?_, rfl⟩⟩, fun h4 => ⟨?_, rfl⟩⟩, fun h3 => ⟨?_, rfl⟩⟩, fun h2 => ⟨?_, rfl⟩⟩, fun h1 => ⟨?_, rfl⟩⟩, fun h => ⟨?_, rfl⟩⟩
  · rw [if_pos h, if_neg h1, if_neg h2, if_neg h3, if_neg h4, if_neg h5]
  · rw [if_pos h, if_neg h1, if_neg h2, if_neg h3, if_neg h4, if_pos h5]
  · rw [if_pos h, if_neg h1, if_neg h2, if_neg h3, if_pos h4]
  · rw [if_pos h, if_neg h1, if_neg h2, if_pos h3]
  · rw [if_pos h, if_neg h1, if_pos h2]
  · rw [if_pos h, if_pos h1]
  · rw [if_neg h]
def sgF (σ : S8) : Int32 := if isWF σ 6385252 then 38 else if isWF σ 28530 then 124 else (if (σ.1 6) = 60 then σ.1 6 else if (σ.1 6) = 62 then σ.1 6 else if (σ.1 6) = 61 then σ.1 6 else if (σ.1 6) = 43 then σ.1 6 else if (σ.1 6) = 45 then σ.1 6 else if (σ.1 6) = 42 then σ.1 6 else if (σ.1 6) = 47 then σ.1 6 else if (σ.1 6) = 37 then σ.1 6 else 0)
theorem signT8 (d : Nat) (σ : S8) : Tw8 mX8_sign (d + 2) [] σ (some (.int (sgF σ))) σ := by
  refine Tw8.ofR [] (by decide) (fun _ => rfl) (fun _ _ => Nat.le_of_ble_eq_true rfl) (g8_sign_0 ⟨_, _, isWordT8 d σ 6385252, fun h => ⟨_, _, isWordT8 d σ 28530, fun h2 => ?_, fun h2 => ?_⟩, fun h => ?_⟩)
  · rw [bi_0] at h h2
    unfold sgF
    rw [h, h2]
    exact ⟨rfl, rfl⟩
  · rw [bi_0] at h
    rw [bi_0, Bool.not_eq_false] at h2
    unfold sgF
    rw [h, h2]
    exact ⟨rfl, rfl⟩
  · rw [bi_0, Bool.not_eq_false] at h
    unfold sgF
    rw [h]
    exact ⟨rfl, rfl⟩
def fullF (σ : S8) : Bool := decide (σ.1 20 = 60) || decide (σ.1 22 = 30)
theorem isFullT8 (d : Nat) (σ : S8) : Tw8 mX8_isFull (d + 1) [] σ (some (.int (bi (fullF σ)))) σ := by
  refine Tw8.ofR [] (by decide) (fun _ => rfl) (fun _ _ => Nat.le_of_ble_eq_true rfl) (g8_isFull_0 ⟨?_, rfl⟩)
  unfold fullF
  by_cases h : σ.1 20 = 60
  · rw [if_pos h, decide_eq_true h]; rfl
  · rw [if_neg h, decide_eq_false h, Bool.false_or, bi_if]
def cuF (σ : S8) : S8 := (upd (upd σ.1 20 ((σ.1 20) + 1)) 22 ((σ.1 22) + 1), σ.2.1, σ.2.2.1, σ.2.2.2)
theorem countUnitT8 (d : Nat) (σ : S8) : Tw8 mX8_countUnit (d + 1) [] σ none (cuF σ) :=
  Tw8.ofR [] (by decide) (fun _ => rfl) (fun _ _ => Nat.le_of_ble_eq_true rfl) (g8_countUnit_0 ⟨rfl, rfl⟩)
def addF (σ : S8) (s v : Int32) : S8 := (upd σ.1 17 ((σ.1 17) + 1), upA (upA σ.2.1 11 (upd (σ.2.1 11) (σ.1 17).toNatClampNeg s)) 12 (upd (σ.2.1 12) (σ.1 17).toNatClampNeg v), σ.2.2.1, σ.2.2.2)
theorem addT8 (d : Nat) (σ : S8) (s v : Int32) (h : vp_in (σ.1 17) 320) : Tw8 mX8_add (d + 1) [.int s, .int v] σ none (addF σ s v) :=
  Tw8.ofR [.int s, .int v] (by decide) (fun _ => rfl) (fun _ _ => Nat.le_of_ble_eq_true rfl) (g8_add_0 ⟨h, rfl, rfl⟩)
