/-! the twin's public members: the best dress -/
set_option maxRecDepth 100000
/-- counting down from n -/
def dn (n k : Nat) : Int32 := if k < n then nI (n - 1 - k) else -1
theorem dn_0 : ∀ n : Fin 7, nI n.val - 1 = dn n.val 0 := by decide +kernel
theorem dn_s7 : ∀ n k : Fin 7, k.val < n.val → dn n.val k.val + (-1) = dn n.val (k.val + 1) := by decide +kernel
theorem dn_s {n k : Nat} (hn : n ≤ 6) (hk : k < n) : dn n k + (-1) = dn n (k + 1) := dn_s7 ⟨n, by omega⟩ ⟨k, by omega⟩ hk
theorem dn_p {n k : Nat} (hk : k < n) : dn n k = nI (n - 1 - k) := if_pos hk
theorem dn_e (n : Nat) : dn n n = -1 := if_neg (by omega)
/-- the digit k of a code -/
def dg (b code k : Nat) : Nat := code / b ^ k % b
theorem dg_lt {b : Nat} (hb : 0 < b) (code k : Nat) : dg b code k < b := Nat.mod_lt _ hb
def drS (ill : Nat → Nat → Int32) (st : Int32) (nm nc code k : Nat) : Option (Int32 × Int32) → Option (Int32 × Int32)
  | none => none
  | some p => if dg (nc + 1) code k = nc then some p else if hasB p.1 (dg (nc + 1) code k) then none else if ill (nm - 1 - k) (dg (nc + 1) code k) ≤ st then some (p.1 ||| (1 <<< (nI (dg (nc + 1) code k) &&& 31)), p.2 + 1) else none
def drE (ill : Nat → Nat → Int32) (st : Int32) (nm nc code : Nat) : Nat → Option (Int32 × Int32) := acc8 (fun k s => drS ill st nm nc code k s) (some (0, 0))
theorem drE_s (ill : Nat → Nat → Int32) (st : Int32) (nm nc code k : Nat) : drE ill st nm nc code (k + 1) = drS ill st nm nc code k (drE ill st nm nc code k) := rfl
theorem drE_n {ill : Nat → Nat → Int32} {st : Int32} {nm nc code j : Nat} (h : drE ill st nm nc code j = none) : ∀ n, drE ill st nm nc code (j + n) = none := by
  intro n
  induction n with
  | zero => exact h
  | succ n ih =>
    rw [show j + (n + 1) = (j + n) + 1 by omega, drE_s, ih]
    rfl
def drN : Option (Int32 × Int32) → Int32
  | none => -1
  | some p => p.2
def rowD (nc code j : Nat) : Int32 := if dg (nc + 1) code j = nc then -1 else nI (dg (nc + 1) code j)
theorem layDressT8 (d : Nat) (σ : S8) (ill : Nat → Nat → Int32) {code nm nc : Nat} (hcd : code < 1000000) (h48 : σ.1 48 = nI nm) (h6 : nm ≤ 6) (h49 : σ.1 49 = nI nc) (hc6 : nc ≤ 6) (hi : ∀ m c, m < nm → c < nc → σ.2.1 66 (6 * m + c) = ill m c) :
    ∃ σ1, Tw8 mX8_layDress (d + 1) [.int (nI code)] σ (some (.int (drN (drE ill (σ.1 50) nm nc code nm)))) σ1 ∧ kp [65] σ σ1 ∧ (drE ill (σ.1 50) nm nc code nm ≠ none → ∀ m, m < nm → σ1.2.1 65 m = rowD nc code (nm - 1 - m)) := by
  have go : ∀ {r σ2}, Rn8 mX8_layDress (d + 1) 15 [.int (nI code), .int (nI (code / (nc + 1) ^ 0)), .int 0, .int 0, .int (dn nm 0), U_] (fun _ => []) σ r σ2 → Tw8 mX8_layDress (d + 1) [.int (nI code)] σ r σ2 := by
    intro r σ2 h
    refine Tw8.ofR [.int (nI code), U_, U_, U_, U_, U_] (by decide) (fun _ => rfl) (fun _ _ => Nat.le_of_ble_eq_true rfl) (g8_layDress_0 ?_)
    rw [h48, dn_0 ⟨nm, by omega⟩]
    rw [Nat.pow_zero, Nat.div_one] at h
    exact h
  have e1 : nI nc + 1 = nI (nc + 1) := nI_1 nc
  rcases iter8e (A := Int32 × Int32) (fun k p τ r σ2 => Rn8 mX8_layDress (d + 1) 15 [.int (nI code), .int (nI (code / (nc + 1) ^ k)), .int p.1, .int p.2, .int (dn nm k), U_] (fun _ => []) τ r σ2) (fun k p τ => drE ill (σ.1 50) nm nc code k = some p ∧ kp [65] σ τ ∧ ∀ j, j < k → τ.2.1 65 (nm - 1 - j) = rowD nc code j) (fun r σ2 => r = some (.int (-1)) ∧ drE ill (σ.1 50) nm nc code nm = none ∧ kp [65] σ σ2) nm (by
    rintro k p τ hk ⟨p0, p1, p2⟩
    have t49 : τ.1 49 = nI nc := by rw [p1.1]; exact h49
    have t50 : τ.1 50 = σ.1 50 := by rw [p1.1]
    have e66 : τ.2.1 66 = σ.2.1 66 := p1.2.2 66 (by decide)
    have hq : code / (nc + 1) ^ k < 1000000 := Nat.lt_of_le_of_lt (Nat.div_le_self _ _) hcd
    have hg := dg_lt (b := nc + 1) (by omega) code k
    have er : nI (code / (nc + 1) ^ k) - nI (code / (nc + 1) ^ k) / nI (nc + 1) * nI (nc + 1) = nI (dg (nc + 1) code k) := pk_rem (by omega) (by omega) (by omega)
    have ed : nI (code / (nc + 1) ^ k) / nI (nc + 1) = nI (code / (nc + 1) ^ (k + 1)) := by
      rw [pk_div (by omega) (by omega) (by omega), Nat.div_div_eq_div_mul, Nat.pow_succ]
    have h15 : ∀ {r σ2}, Rn8 mX8_layDress (d + 1) 60 [.int (nI code), .int (nI (code / (nc + 1) ^ (k + 1))), .int p.1, .int p.2, .int (nI (nm - 1 - k)), .int (nI (dg (nc + 1) code k))] (fun T => [.int (rowD nc code k), .int (nI (nm - 1 - k)), .ref (a8 T 65)]) τ r σ2 → Rn8 mX8_layDress (d + 1) 15 [.int (nI code), .int (nI (code / (nc + 1) ^ k)), .int p.1, .int p.2, .int (dn nm k), U_] (fun _ => []) τ r σ2 := by
      intro r σ2 h
      rw [dn_p hk]
      have hz : ¬ τ.1 49 + 1 = 0 := by rw [t49, e1]; exact nI_ne0 (by omega) (by omega)
      refine g8_layDress_15 ⟨fun q => absurd q (nI_nneg (by omega)), fun _ => ⟨hz, hz, ?_⟩⟩
      have ec : (if nI (dg (nc + 1) code k) = nI nc then (-1 : Int32) else nI (dg (nc + 1) code k)) = rowD nc code k := by
        unfold rowD
        by_cases e : dg (nc + 1) code k = nc
        · rw [if_pos e, if_pos (by rw [e])]
        · rw [if_neg e, if_neg (nI_ne (by omega) (by omega) e)]
      rw [t49, e1, er, ed, ec]
      exact h
    have b6 : vp_in (nI (nm - 1 - k)) 6 := vin (by omega) (by decide)
    have cm : (nI (nm - 1 - k)).toNatClampNeg = nm - 1 - k := cl (by omega)
    have kn : kp [65] σ (τ.1, upA τ.2.1 65 (upd (τ.2.1 65) (nm - 1 - k) (rowD nc code k)), τ.2.2.1, τ.2.2.2) := kp1 p1 (by decide)
    have rw1 : ∀ j, j < k + 1 → upA τ.2.1 65 (upd (τ.2.1 65) (nm - 1 - k) (rowD nc code k)) 65 (nm - 1 - j) = rowD nc code j := by
      intro j hj
      rw [upA_s]
      by_cases e : j = k
      · rw [e, upd_s]
      · rw [upd_n (by omega)]; exact p2 j (by omega)
    have dsn := dn_s h6 hk
    rw [dn_p hk] at dsn
    by_cases e : dg (nc + 1) code k = nc
    · refine Or.inl ⟨p, _, ⟨?_, kn, rw1⟩, fun r σ2 h => h15 (g8_layDress_60_3 ⟨b6, fun q => absurd (by rw [e, t49]) q, fun _ => ?_⟩)⟩
      · rw [drE_s, p0]
        unfold drS
        simp only [if_pos e]
      · rw [cm, dsn]; exact h
    have b36 : vp_in ((6 * nI (nm - 1 - k)) + nI (dg (nc + 1) code k)) 36 := by rw [n6m]; exact vin (by omega) (by decide)
    have en : ¬ nI (dg (nc + 1) code k) = τ.1 49 := by rw [t49]; exact nI_ne (by omega) (by omega) e
    cases hb : hasB p.1 (dg (nc + 1) code k)
    · have hb2 := of_decide_eq_false hb
      by_cases hl : ill (nm - 1 - k) (dg (nc + 1) code k) ≤ σ.1 50
      · refine Or.inl ⟨(p.1 ||| (1 <<< (nI (dg (nc + 1) code k) &&& 31)), p.2 + 1), _, ⟨?_, kn, rw1⟩, fun r σ2 h => h15 (g8_layDress_60_3 ⟨b6, fun _ => ⟨fun q => absurd q hb2, fun _ => ⟨b36, fun _ => ?_, fun q => absurd ?_ q⟩⟩, fun q => absurd q en⟩)⟩
        · rw [drE_s, p0]
          unfold drS
          simp only [if_neg e, hb, if_pos hl, Bool.false_eq_true, if_false]
        · rw [cm, dsn]; exact h
        · rw [n6m, cl (by omega), e66, hi _ _ (by omega) (by omega), t50]; exact hl
      · refine Or.inr ⟨some (.int (-1)), _, h15 (g8_layDress_60_3 ⟨b6, fun _ => ⟨fun q => absurd q hb2, fun _ => ⟨b36, fun q => absurd ?_ hl, fun q => ⟨rfl, rfl⟩⟩⟩, fun q => absurd q en⟩), rfl, ?_, ?_⟩
        · rw [n6m, cl (by omega), e66, hi _ _ (by omega) (by omega), t50] at q; exact q
        · have := drE_n (j := k + 1) (ill := ill) (st := σ.1 50) (nm := nm) (nc := nc) (code := code) (by
            rw [drE_s, p0]
            unfold drS
            simp only [if_neg e, hb, if_neg hl, Bool.false_eq_true, if_false]) (nm - (k + 1))
          rwa [show k + 1 + (nm - (k + 1)) = nm by omega] at this
        · rw [cm]; exact kn
    · refine Or.inr ⟨some (.int (-1)), _, h15 (g8_layDress_60_3 ⟨b6, fun _ => ⟨fun _ => ⟨rfl, rfl⟩, fun q => absurd (of_decide_eq_true hb) q⟩, fun q => absurd q en⟩), rfl, ?_, ?_⟩
      · have := drE_n (j := k + 1) (ill := ill) (st := σ.1 50) (nm := nm) (nc := nc) (code := code) (by
          rw [drE_s, p0]
          unfold drS
          simp only [if_neg e, hb, if_true]) (nm - (k + 1))
        rwa [show k + 1 + (nm - (k + 1)) = nm by omega] at this
      · rw [cm]; exact kn) 0 (0, 0) σ (Nat.zero_le _) ⟨rfl, kp.rf, fun j hj => absurd hj (by omega)⟩ with ⟨p, τ, ⟨a0, a1, a2⟩, a3⟩ | ⟨r, σ1, s1, rfl, s2, s3⟩
  · refine ⟨τ, go (a3 _ _ (g8_layDress_15 ⟨fun _ => ⟨by rw [a0]; rfl, rfl⟩, fun q => absurd (by rw [dn_e]; decide) q⟩)), a1, fun _ m hm => ?_⟩
    have := a2 (nm - 1 - m) (by omega)
    rwa [show nm - 1 - (nm - 1 - m) = m by omega] at this
  · exact ⟨σ1, by rw [s2]; exact go s1, s3, fun q => absurd s2 q⟩
def ilE (ill : Nat → Nat → Int32) (nm nc code : Nat) : Nat → Int32 := acc8 (fun m a => a + (if dg (nc + 1) code (nm - 1 - m) = nc then 0 else ill m (dg (nc + 1) code (nm - 1 - m)))) 0
theorem ilE_s (ill : Nat → Nat → Int32) (nm nc code m : Nat) : ilE ill nm nc code (m + 1) = ilE ill nm nc code m + (if dg (nc + 1) code (nm - 1 - m) = nc then 0 else ill m (dg (nc + 1) code (nm - 1 - m))) := rfl
theorem illOfRowT8 (d : Nat) (σ : S8) (ill : Nat → Nat → Int32) {code nm nc : Nat} (h48 : σ.1 48 = nI nm) (h6 : nm ≤ 6) (hc6 : nc ≤ 6) (hi : ∀ m c, m < nm → c < nc → σ.2.1 66 (6 * m + c) = ill m c) (hr : ∀ m, m < nm → σ.2.1 65 m = rowD nc code (nm - 1 - m)) : Tw8 mX8_illOfRow (d + 1) [] σ (some (.int (ilE ill nm nc code nm))) σ := by
  obtain ⟨a, τ, ⟨a1, a2⟩, a3⟩ := iter8 (A := Int32) (fun m a τ r σ1 => Rn8 mX8_illOfRow (d + 1) 4 [.int a, .int (nI m)] (fun _ => []) τ r σ1) (fun m a τ => a = ilE ill nm nc code m ∧ τ = σ) nm (by
    rintro m a τ hm ⟨p0, rfl⟩
    refine ⟨_, _, ⟨rfl, rfl⟩, fun r σ1 h => ?_⟩
    rw [ilE_s, ← p0] at h
    have cm : (nI m).toNatClampNeg = m := cl (by omega)
    have hg := dg_lt (b := nc + 1) (by omega) code (nm - 1 - m)
    refine g8_illOfRow_4 ⟨fun q => absurd q (by rw [h48]; exact nI_ge hm (by omega)), fun _ => ⟨vin (by omega) (by decide), ?_⟩⟩
    rw [cm, hr m hm]
    unfold rowD
    by_cases e : dg (nc + 1) code (nm - 1 - m) = nc
    · rw [if_pos e] at h ⊢
      exact ⟨fun q => absurd q (by decide), fun _ => by rw [nI_1]; exact h⟩
    · rw [if_neg e] at h ⊢
      refine ⟨fun _ => ⟨by rw [n6m]; exact vin (by omega) (by decide), ?_⟩, fun q => absurd (nI_le (a := 0) (by omega) (by omega)) q⟩
      rw [n6m, cl (by omega), hi m _ hm (by omega), nI_1]
      exact h) 0 0 σ (Nat.zero_le _) ⟨rfl, rfl⟩
  subst a1; subst a2
  exact Tw8.ofR [U_, U_] (by decide) (fun _ => rfl) (fun _ _ => Nat.le_of_ble_eq_true rfl) (g8_illOfRow_0 (a3 _ _ (g8_illOfRow_4 ⟨fun _ => ⟨rfl, rfl⟩, fun q => absurd (by rw [h48]; exact nI_le (Nat.le_refl _) (by omega)) q⟩)))
