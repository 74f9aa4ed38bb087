/-! the twin's reader: names -/
set_option maxRecDepth 100000
/-- only the reader's own ints and its word have changed -/
def kR (σ τ : S8) : Prop := (∀ j, j ∉ [2, 3, 4, 6, 7, 8] → τ.1 j = σ.1 j) ∧ τ.2.1 = σ.2.1 ∧ τ.2.2.2 = σ.2.2.2
theorem kR.rf {σ : S8} : kR σ σ := ⟨fun _ _ => rfl, rfl, rfl⟩
theorem kR.tr {σ τ ρ : S8} (h : kR σ τ) (h2 : kR τ ρ) : kR σ ρ := ⟨fun j hj => (h2.1 j hj).trans (h.1 j hj), h2.2.1.trans h.2.1, h2.2.2.trans h.2.2⟩
theorem kR_tk (σ : S8) : kR σ (tkF σ) := by
  refine ⟨fun j hj => ?_, rfl, rfl⟩
  show tokI σ.1 _ _ j = σ.1 j
  unfold tokI
  rw [if_neg (fun e => hj (by rw [e]; decide)), if_neg (fun e => hj (by rw [e]; decide)), if_neg (fun e => hj (by rw [e]; decide)), if_neg (fun e => hj (by rw [e]; decide))]
theorem kR_wr (σ : S8) (what : Int32) : kR σ (wrF σ what) := by
  unfold wrF
  split
  · refine ⟨fun j hj => ?_, rfl, rfl⟩
    show upd (upd σ.1 2 _) 3 (σ.1 7) j = σ.1 j
    rw [upd_n (fun e => hj (by rw [e]; decide)), upd_n (fun e => hj (by rw [e]; decide))]
  · exact kR.rf
theorem kR_wn (σ : S8) (w : Int64) : kR σ (wnF σ w) := by
  unfold wnF
  split
  · split
    · exact kR_tk σ
    · exact kR_wr σ 2
  · exact kR.rf
theorem kR_nu (σ : S8) (lo hi : Int32) : kR σ (nuF σ lo hi) := by
  unfold nuF
  split
  · split
    · exact kR_wr σ 4
    · split
      · exact kR.rf
      · exact kR_wr σ 4
  · exact kR_wr σ 2
theorem kR_tn (σ : S8) (lo hi : Int32) : kR σ (tnF σ lo hi).2 := by
  unfold tnF
  split
  · show kR σ (if (nuF σ lo hi).1 2 = 0 then tkF (nuF σ lo hi) else nuF σ lo hi)
    split
    · exact (kR_nu σ lo hi).tr (kR_tk _)
    · exact kR_nu σ lo hi
  · exact kR.rf
theorem kR_td (σ : S8) (w : Int64) (hi : Int32) : kR σ (tdF σ w hi).2 := (kR_wn σ w).tr (kR_tn _ _ _)
theorem kR_op (σ : S8) (w : Int64) (hi : Int32) : kR σ (opF σ w hi).2 := by
  unfold opF
  split
  · exact kR_td σ w hi
  · exact kR.rf
/-- the words that no name may be -/
def ownL : List Int64 := [7168366, 1952541804, 2003395685, 444301539187, 1668243828, 1936023917, 2003792494, 6909036, 1700885369, 1651469428, 1818848101, 1918986606, 1685217655, 499984590964, 465726042981, 495673373300, 1819242087, 6578553, 6385252, 28530, 7237492]
def ownV (w : Int64) : List Int64 → Int32
  | [] => 0
  | x :: xs => if lg_cmp w x = 0 then 1 else ownV w xs
theorem isOwnT8 (d : Nat) (σ : S8) : Tw8 mX8_isOwn (d + 1) [] σ (some (.int (ownV σ.2.2.1 ownL))) σ :=
  Tw8.ofR [] (by decide) (fun _ => rfl) (fun _ _ => Nat.le_of_ble_eq_true rfl) (g8_isOwn_0 ⟨rfl, rfl⟩)
def isNF (σ : S8) : Bool := decide (σ.1 6 = 1) && decide (ownV σ.2.2.1 ownL = 0)
theorem isNameT8 (d : Nat) (σ : S8) : Tw8 mX8_isName (d + 2) [] σ (some (.int (bi (isNF σ)))) σ := by
  refine Tw8.ofR [] (by decide) (fun _ => rfl) (fun _ _ => Nat.le_of_ble_eq_true rfl) (g8_isName_0 ?_)
  unfold isNF
  by_cases h : σ.1 6 = 1
  · refine ⟨fun q => absurd h q, fun _ => ⟨_, _, isOwnT8 d σ, ?_, rfl⟩⟩
    rw [decide_eq_true h, Bool.true_and, bi_if]
  · rw [decide_eq_false h, Bool.false_and]
    exact ⟨fun _ => ⟨rfl, rfl⟩, fun q => absurd q h⟩
/-- whether the word is one of the n names from a on -/
def dupN (nm : Nat → Int64) (a : Nat) (w : Int64) : Nat → Bool := acc8 (fun k b => b || decide (lg_cmp (nm (a + k)) w = 0)) false
theorem dupN_s (nm : Nat → Int64) (a : Nat) (w : Int64) (k : Nat) : dupN nm a w (k + 1) = (dupN nm a w k || decide (lg_cmp (nm (a + k)) w = 0)) := rfl
theorem dupN_t {nm : Nat → Int64} {a : Nat} {w : Int64} {k : Nat} (h : dupN nm a w k = true) : ∀ i, dupN nm a w (k + i) = true := by
  intro i
  induction i with
  | zero => exact h
  | succ i ih =>
    rw [show k + (i + 1) = (k + i) + 1 by omega, dupN_s, ih]
    rfl
def nmF1 (σ : S8) : S8 := if isNF (tkF σ) then tkF σ else wrF (tkF σ) 2
def nmF2 (σ : S8) (a n : Nat) : S8 := if σ.1 2 = 0 ∧ dupN σ.2.2.2 a σ.2.2.1 n = true then wrF σ 3 else σ
def nmF3 (σ : S8) (i : Nat) : S8 := if σ.1 2 ≤ 0 then tkF (σ.1, σ.2.1, σ.2.2.1, vp_updL σ.2.2.2 i σ.2.2.1) else σ
def nmF (σ : S8) (a n : Nat) : S8 := nmF3 (nmF2 (nmF1 σ) a n) (a + n)
theorem okR_nm1 {σ : S8} (h : okR σ) : okR (nmF1 σ) := by
  unfold nmF1
  split
  · exact okR_tk h
  · exact okR_wr (okR_tk h)
theorem okR_nm2 {σ : S8} {a n : Nat} (h : okR σ) : okR (nmF2 σ a n) := by
  unfold nmF2
  split
  · exact okR_wr h
  · exact h
theorem okR_nm3 {σ : S8} {i : Nat} (h : okR σ) : okR (nmF3 σ i) := by
  unfold nmF3
  split
  · exact okR_tk h
  · exact h
theorem okR_nm {σ : S8} {a n : Nat} (h : okR σ) : okR (nmF σ a n) := okR_nm3 (okR_nm2 (okR_nm1 h))
theorem wr_fault (σ : S8) (h : σ.1 2 = 0) : ¬ (wrF σ 3).1 2 = 0 := by
  unfold wrF
  rw [if_pos (by rw [h]; decide)]
  show ¬ upd (upd σ.1 2 (if σ.1 6 = 3 then 1 else 3)) 3 (σ.1 7) 2 = 0
  rw [upd_n (by decide), upd_s]
  split <;> decide
theorem newNameT8 (d : Nat) {σ : S8} {a n : Nat} (hk : okR σ) (ha : a ≤ 6) (hn : n ≤ 5) : Tw8 mX8_newName (d + 3) [.int (nI a), .int (nI n)] σ none (nmF σ a n) := by
  -- the end
  have fin : ∀ (k : Nat) (τ : S8), okR τ → Rn8 mX8_newName (d + 3) 57 [.int (nI a), .int (nI n), .int (nI k)] (fun _ => []) τ none (nmF3 τ (a + n)) := by
    intro k τ ht
    refine g8_newName_57 ?_
    unfold nmF3
    by_cases h : τ.1 2 ≤ 0
    · rw [if_pos h]
      refine ⟨fun _ => ⟨by rw [nI_add]; exact vin (by omega) (by decide), _, tokenF8 d (σ := (τ.1, τ.2.1, τ.2.2.1, vp_updL τ.2.2.2 (nI a + nI n).toNatClampNeg τ.2.2.1)) ht, rfl, ?_⟩, fun q => absurd h q⟩
      rw [nI_add, cl (by omega)]
    · rw [if_neg h]
      exact ⟨fun q => absurd q h, fun _ => ⟨rfl, rfl⟩⟩
  -- the loop
  have lp : ∀ τ : S8, okR τ → Rn8 mX8_newName (d + 3) 18 [.int (nI a), .int (nI n), .int (nI 0)] (fun _ => []) τ none (nmF3 (nmF2 τ a n) (a + n)) := by
    intro τ ht
    by_cases h0 : τ.1 2 = 0
    · rcases iter8e (A := Unit) (fun k _ τ r σ2 => Rn8 mX8_newName (d + 3) 18 [.int (nI a), .int (nI n), .int (nI k)] (fun _ => []) τ r σ2) (fun k _ τ1 => τ1 = τ ∧ dupN τ.2.2.2 a τ.2.2.1 k = false) (fun r σ2 => r = none ∧ σ2 = nmF3 (nmF2 τ a n) (a + n)) n (by
        rintro k ⟨⟩ τ1 hk ⟨rfl, p1⟩
        have b12 : vp_in (nI a + nI k) 12 := by rw [nI_add]; exact vin (by omega) (by decide)
        have ec : (nI a + nI k).toNatClampNeg = a + k := by rw [nI_add]; exact cl (by omega)
        by_cases e : lg_cmp (τ1.2.2.2 (a + k)) τ1.2.2.1 = 0
        · have e1 : dupN τ1.2.2.2 a τ1.2.2.1 (k + 1) = true := by rw [dupN_s, p1, decide_eq_true e]; rfl
          have e2 : dupN τ1.2.2.2 a τ1.2.2.1 n = true := by
            have := dupN_t e1 (n - (k + 1))
            rwa [show k + 1 + (n - (k + 1)) = n by omega] at this
          have e3 : nmF2 τ1 a n = wrF τ1 3 := by unfold nmF2; rw [if_pos ⟨h0, e2⟩]
          have hw := wr_fault τ1 h0
          refine Or.inr ⟨none, _, g8_newName_18 ⟨fun q => absurd q (nI_ge hk (by omega)), fun _ => ⟨fun q => absurd h0 q, fun _ => ⟨b12, fun q => absurd (by rw [ec]; exact e) q, fun _ => ⟨_, wrongT8 (d + 1) τ1 3, g8_newName_18 ⟨fun _ => ?_, fun _ => ⟨fun _ => ?_, fun q => absurd q hw⟩⟩⟩⟩⟩⟩, rfl, rfl⟩
          · rw [nI_1, e3]; exact fin (k + 1) _ (okR_wr ht)
          · rw [nI_1, e3]; exact fin (k + 1) _ (okR_wr ht)
        · refine Or.inl ⟨(), τ1, ⟨rfl, by rw [dupN_s, p1, decide_eq_false e]; rfl⟩, fun r σ2 h => g8_newName_18 ⟨fun q => absurd q (nI_ge hk (by omega)), fun _ => ⟨fun q => absurd h0 q, fun _ => ⟨b12, fun _ => by rw [nI_1]; exact h, fun q => absurd (by rw [ec] at q; exact q) e⟩⟩⟩⟩) 0 () τ (Nat.zero_le _) ⟨rfl, rfl⟩ with ⟨_, τ1, ⟨rfl, a1⟩, a3⟩ | ⟨r, σ2, s1, rfl, rfl⟩
      · have e3 : nmF2 τ1 a n = τ1 := by unfold nmF2; rw [if_neg (fun z => by rw [a1] at z; exact absurd z.2 (by decide))]
        rw [e3]
        exact a3 _ _ (g8_newName_18 ⟨fun _ => fin n τ1 ht, fun q => absurd (nI_le (Nat.le_refl _) (by omega)) q⟩)
      · exact s1
    · have e3 : nmF2 τ a n = τ := by unfold nmF2; rw [if_neg (fun z => h0 z.1)]
      rw [e3]
      exact g8_newName_18 ⟨fun _ => fin 0 τ ht, fun _ => ⟨fun _ => fin 0 τ ht, fun q => absurd q h0⟩⟩
  refine Tw8.ofR [.int (nI a), .int (nI n), U_] (by decide) (fun _ => rfl) (fun _ _ => Nat.le_of_ble_eq_true rfl) (g8_newName_0 ⟨_, tokenF8 d hk, _, _, isNameT8 d (tkF σ), ?_⟩)
  have l1 := lp (nmF1 σ) (okR_nm1 hk)
  unfold nmF
  unfold nmF1 at l1 ⊢
  cases hN : isNF (tkF σ)
  · rw [hN] at l1
    exact ⟨fun q => absurd rfl q, fun _ => ⟨_, wrongT8 (d + 1) (tkF σ) 2, l1⟩⟩
  · rw [hN] at l1
    exact ⟨fun _ => l1, fun q => absurd q (by decide)⟩
