/-! the twin's reader: signs are done -/
set_option maxRecDepth 100000
set_option maxHeartbeats 200000
/-- one that waits is done -/
def doF (σ : S8) (n : Nat) : S8 := addF (setI σ 19 (nI n)) 3 (σ.2.1 15 n)
def noF (σ : S8) (n : Nat) : S8 := setI (addF (setI σ 19 (nI n)) 2 0) 23 ((addF (setI σ 19 (nI n)) 2 0).1 23 - 1)
def clF (least : Int32) : Nat → S8 → S8
  | 0, σ => σ
  | n + 1, σ => if σ.2.1 15 n = 20 then σ else if s8_tight (σ.2.1 15 n) < least then σ else if σ.2.1 15 n = 21 then clF least n (noF σ n) else clF least n (doF σ n)
theorem add_19 (σ : S8) (n m : Nat) (s v : Int32) (h : σ.1 17 = nI m) : (addF (setI σ 19 (nI n)) s v).1 19 = nI n ∧ (addF (setI σ 19 (nI n)) s v).1 17 = nI (m + 1) := by
  have e17 : (setI σ 19 (nI n)).1 17 = nI m := by
    show upd σ.1 19 (nI n) 17 = _
    rw [upd_n (by decide)]; exact h
  constructor
  · show upd (setI σ 19 (nI n)).1 17 ((setI σ 19 (nI n)).1 17 + 1) 19 = _
    rw [upd_n (by decide)]
    exact upd_s (f := σ.1) (k := 19)
  · show upd (setI σ 19 (nI n)).1 17 ((setI σ 19 (nI n)).1 17 + 1) 17 = _
    rw [upd_s, e17, nI_1]
theorem closeR (d : Nat) (least : Int32) : ∀ (n : Nat) (σ : S8) (m : Nat), σ.1 19 = nI n → σ.1 17 = nI m → m + n ≤ 320 → n ≤ 160 → Rn8 mX8_close (d + 2) 0 [.int least] (fun _ => []) σ none (clF least n σ) := by
  intro n
  induction n with
  | zero =>
    intro σ m h1 h2 h3 h4
    refine g8_close_0 ⟨fun _ => ⟨rfl, rfl⟩, fun q => absurd (by rw [h1]; decide) q⟩
  | succ n ih =>
    intro σ m h1 h2 h3 h4
    have hz : ¬ nI (n + 1) ≤ 0 := nI_nle (by omega) (by omega)
    have cn : (nI n).toNatClampNeg = n := cl (by omega)
    have ha : ∀ s v, Tw8 mX8_add (d + 1) [.int s, .int v] (upd σ.1 19 (nI n), σ.2.1, σ.2.2.1, σ.2.2.2) none (addF (setI σ 19 (nI n)) s v) := fun s v => addT8 d (setI σ 19 (nI n)) s v (by
      show vp_in (upd σ.1 19 (nI n) 17) 320
      rw [upd_n (by decide), h2]
      exact vin (by omega) (by decide))
    have c0 := g8_close_0 (d := d) (v1 := least) (σ := σ) (σ1 := clF least (n + 1) σ) (r := none)
    rw [h1, nI_prd, cn] at c0
    refine c0 ⟨fun q => absurd q hz, fun _ => ⟨vin (by omega) (by decide), fun e => ⟨rfl, ?_⟩, fun e => ⟨fun e2 => ⟨rfl, ?_⟩, fun e2 => ⟨fun e3 => ⟨_, ha 3 (σ.2.1 15 n), ?_⟩, fun e3 => ⟨_, ha 2 0, ?_⟩⟩⟩⟩⟩
    · show (if σ.2.1 15 n = 20 then σ else _) = σ
      rw [if_pos e]
    · show (if σ.2.1 15 n = 20 then σ else if s8_tight (σ.2.1 15 n) < least then σ else _) = σ
      rw [if_neg e, if_pos e2]
    · have hc : clF least (n + 1) σ = clF least n (doF σ n) := by
        show (if σ.2.1 15 n = 20 then σ else if s8_tight (σ.2.1 15 n) < least then σ else if σ.2.1 15 n = 21 then clF least n (noF σ n) else clF least n (doF σ n)) = _
        rw [if_neg e, if_neg e2, if_neg e3]
      rw [hc]
      have a := add_19 σ n m 3 (σ.2.1 15 n) h2
      exact ih (doF σ n) (m + 1) a.1 a.2 (by omega) (by omega)
    · have hc : clF least (n + 1) σ = clF least n (noF σ n) := by
        show (if σ.2.1 15 n = 20 then σ else if s8_tight (σ.2.1 15 n) < least then σ else if σ.2.1 15 n = 21 then clF least n (noF σ n) else clF least n (doF σ n)) = _
        rw [if_neg e, if_neg e2, if_pos e3]
      rw [hc]
      have a := add_19 σ n m 2 0 h2
      refine ih (noF σ n) (m + 1) ?_ ?_ (by omega) (by omega)
      · show upd (addF (setI σ 19 (nI n)) 2 0).1 23 ((addF (setI σ 19 (nI n)) 2 0).1 23 - 1) 19 = _
        rw [upd_n (by decide)]; exact a.1
      · show upd (addF (setI σ 19 (nI n)) 2 0).1 23 ((addF (setI σ 19 (nI n)) 2 0).1 23 - 1) 17 = _
        rw [upd_n (by decide)]; exact a.2
theorem closeT8 (d : Nat) (least : Int32) {σ : S8} {n m : Nat} (h1 : σ.1 19 = nI n) (h2 : σ.1 17 = nI m) (h3 : m + n ≤ 320) (h4 : n ≤ 160) : Tw8 mX8_close (d + 2) [.int least] σ none (clF least n σ) :=
  Tw8.ofR [.int least] (by decide) (fun _ => rfl) (fun _ _ => Nat.le_of_ble_eq_true rfl) (closeR d least n σ m h1 h2 h3 h4)
