/-! the twin's reader: a man, a coat -/
set_option maxRecDepth 100000
set_option maxHeartbeats 200000
/-- the ints but the reader's own are as before -/
def kI (σ τ : S8) : Prop := ∀ j, j ∉ [2, 3, 4, 6, 7, 8] → τ.1 j = σ.1 j
theorem kI.tr {σ τ ρ : S8} (h : kI σ τ) (h2 : kI τ ρ) : kI σ ρ := fun j hj => (h2 j hj).trans (h j hj)
theorem kR.kI {σ τ : S8} (h : kR σ τ) : kI σ τ := h.1
theorem kR_nm1 (σ : S8) : kR σ (nmF1 σ) := by
  unfold nmF1
  split
  · exact kR_tk σ
  · exact (kR_tk σ).tr (kR_wr _ 2)
theorem kR_nm2 (σ : S8) (a n : Nat) : kR σ (nmF2 σ a n) := by
  unfold nmF2
  split
  · exact kR_wr _ 3
  · exact kR.rf
theorem kI_nm3 (σ : S8) (i : Nat) : kI σ (nmF3 σ i) := by
  unfold nmF3
  split
  · exact (kR_tk (σ.1, σ.2.1, σ.2.2.1, vp_updL σ.2.2.2 i σ.2.2.1)).1
  · exact fun _ _ => rfl
theorem kI_nm (σ : S8) (a n : Nat) : kI σ (nmF σ a n) := ((kR_nm1 σ).tr (kR_nm2 _ a n)).kI.tr (kI_nm3 _ _)
/-- the place n of the array j becomes x -/
def setA (σ : S8) (j n : Nat) (x : Int32) : S8 := (σ.1, upA σ.2.1 j (upd (σ.2.1 j) n x), σ.2.2.1, σ.2.2.2)
theorem okR_set {σ : S8} {j n : Nat} {x : Int32} (h : okR σ) : okR (setA σ j n x) := h
def setI (σ : S8) (j : Nat) (x : Int32) : S8 := (upd σ.1 j x, σ.2.1, σ.2.2.1, σ.2.2.2)
/-- a told number into an array -/
def tdA (σ : S8) (w : Int64) (hi : Int32) (j n : Nat) : S8 := setA (tdF σ w hi).2 j n (tdF σ w hi).1
def opA (σ : S8) (w : Int64) (hi : Int32) (j n : Nat) : S8 := setA (opF σ w hi).2 j n (opF σ w hi).1
theorem kI_tdA (σ : S8) (w : Int64) (hi : Int32) (j n : Nat) : kI σ (tdA σ w hi j n) := (kR_td σ w hi).1
theorem kI_opA (σ : S8) (w : Int64) (hi : Int32) (j n : Nat) : kI σ (opA σ w hi j n) := (kR_op σ w hi).1
theorem okR_tdA {σ : S8} {w : Int64} {hi : Int32} {j n : Nat} (h : okR σ) : okR (tdA σ w hi j n) := okR_set (okR_td h)
theorem okR_opA {σ : S8} {w : Int64} {hi : Int32} {j n : Nat} (h : okR σ) : okR (opA σ w hi j n) := okR_set (okR_op h)
theorem okR_setI {σ : S8} {j : Nat} {x : Int32} (h : okR σ) (h4 : j ≠ 4) (h5 : j ≠ 5) : okR (setI σ j x) := by
  obtain ⟨len, p, h⟩ := h
  refine ⟨len, p, ?_, h.2.1, ?_, h.2.2.2⟩
  · show upd σ.1 j x 5 = _
    rw [upd_n (fun e => h5 e.symm)]; exact h.1
  · show upd σ.1 j x 4 = _
    rw [upd_n (fun e => h4 e.symm)]; exact h.2.2.1
/-- the last of one is told: if all is well it is counted -/
def cnF (i j n : Nat) (p : Int32 × S8) : S8 := if p.2.1 2 = 0 then setI (setA p.2 j n p.1) i (nI (n + 1)) else setA p.2 j n p.1
theorem okR_cn {i j n : Nat} {p : Int32 × S8} (h : okR p.2) (h4 : i ≠ 4) (h5 : i ≠ 5) : okR (cnF i j n p) := by
  unfold cnF
  split
  · exact okR_setI (okR_set h) h4 h5
  · exact okR_set h
def rmF (σ : S8) (n : Nat) : S8 := cnF 41 29 n (opF (tdA (tdA (nmF σ 0 n) 1952541804 99 27 n) 2003395685 99 28 n) 444301539187 9)
theorem okR_rm {σ : S8} {n : Nat} (h : okR σ) : okR (rmF σ n) := okR_cn (okR_op (okR_tdA (okR_tdA (okR_nm h)))) (by decide) (by decide)
theorem readManG (d : Nat) {σ σ1 : S8} {p3 p7 p11 : Int32 × S8} {n : Nat} (h5 : n ≤ 5) (hn : σ.1 41 = nI n) (t1 : Tw8 mX8_newName (d + 5) [.int 0, .int (nI n)] σ none σ1) (t2 : Tw8 mX8_told (d + 5) [.long 1952541804, .int 99] σ1 (some (.int p3.1)) p3.2) (t3 : Tw8 mX8_told (d + 5) [.long 2003395685, .int 99] (setA p3.2 27 n p3.1) (some (.int p7.1)) p7.2) (t4 : Tw8 mX8_option (d + 5) [.long 444301539187, .int 9] (setA p7.2 28 n p7.1) (some (.int p11.1)) p11.2) (e1 : σ1.1 41 = nI n) (e2 : p3.2.1 41 = nI n) (e3 : p7.2.1 41 = nI n) (e4 : p11.2.1 41 = nI n) : Tw8 mX8_readMan (d + 6) [] σ none (cnF 41 29 n p11) := by
  have bn : vp_in (nI n) 6 := vin (by omega) (by decide)
  have cn : (nI n).toNatClampNeg = n := cl (by omega)
  refine Tw8.ofR [] (by decide) (fun _ => rfl) (fun _ _ => Nat.le_of_ble_eq_true rfl) (g8_readMan_0 ?_)
  unfold cnF
  rw [hn]
  refine ⟨σ1, t1, p3.1, p3.2, t2, by rw [e1]; exact bn, p7.1, p7.2, by rw [e1, cn]; exact t3, by rw [e2]; exact bn, p11.1, p11.2, by rw [e2, cn]; exact t4, by rw [e3]; exact bn, fun h => ?_, fun h => ?_⟩
  · rw [if_neg h, e3, cn]
    exact ⟨rfl, rfl⟩
  · rw [if_pos h, e3, e4, cn, nI_1]
    exact ⟨rfl, rfl⟩
theorem readManT8 (d : Nat) {σ : S8} {n : Nat} (hk : okR σ) (hn : σ.1 41 = nI n) (h5 : n ≤ 5) : Tw8 mX8_readMan (d + 6) [] σ none (rmF σ n) := by
  have k1 := okR_nm (a := 0) (n := n) hk
  have t1 := newNameT8 (d + 2) (a := 0) (n := n) hk (by decide) h5
  have e1 : (nmF σ 0 n).1 41 = nI n := (kI_nm σ 0 n 41 (by decide)).trans hn
  unfold rmF
  generalize nmF σ 0 n = σ1 at *
  have t2 := toldT8 (d + 1) 1952541804 99 k1
  have e2 : (tdF σ1 1952541804 99).2.1 41 = nI n := ((kR_td σ1 1952541804 99).1 41 (by decide)).trans e1
  have k2 : okR (tdA σ1 1952541804 99 27 n) := okR_tdA k1
  unfold tdA at k2 ⊢
  generalize tdF σ1 1952541804 99 = p3 at *
  have t3 := toldT8 (d + 1) 2003395685 99 k2
  have e3 : (tdF (setA p3.2 27 n p3.1) 2003395685 99).2.1 41 = nI n := ((kR_td (setA p3.2 27 n p3.1) 2003395685 99).1 41 (by decide)).trans e2
  have k3 : okR (tdA (setA p3.2 27 n p3.1) 2003395685 99 28 n) := okR_tdA k2
  unfold tdA at k3
  generalize tdF (setA p3.2 27 n p3.1) 2003395685 99 = p7 at *
  have t4 := optionT8 d 444301539187 9 k3
  have e4 : (opF (setA p7.2 28 n p7.1) 444301539187 9).2.1 41 = nI n := ((kR_op (setA p7.2 28 n p7.1) 444301539187 9).1 41 (by decide)).trans e3
  generalize opF (setA p7.2 28 n p7.1) 444301539187 9 = p11 at *
  exact readManG d h5 hn t1 t2 t3 t4 e1 e2 e3 e4
