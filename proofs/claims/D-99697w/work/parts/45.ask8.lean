/-! the twin's public members: the best day to ask -/
set_option maxRecDepth 100000
theorem n21 (a b : Nat) : ((21 : Int32) * nI a) + nI b = nI (21 * a + b) := by
  have : (21 : Int32) = nI 21 := rfl
  rw [this, pk_mul, nI_add]
/-- how many growths may be left after the day dd is asked -/
def leftE (ok : Nat → Bool) (wf : Nat → Nat → Bool) (all : Int32) (dd : Nat) : Int32 := s8_greater (cnt8 (fun g => ok g && wf g dd) 31) (all - cnt8 (fun g => ok g && wf g dd) 31)
theorem leftByT8 (d : Nat) (σ : S8) (all : Int32) {dd : Nat} (ok : Nat → Bool) (wf : Nat → Nat → Bool) (hd : dd ≤ 20) (hw : ∀ g, g < 31 → σ.2.1 75 (21 * g + dd) = bi (wf g dd)) (ho : ∀ g, g < 31 → σ.2.1 76 g = bi (ok g)) : Tw8 mX8_leftBy (d + 2) [.int (nI dd), .int all] σ (some (.int (leftE ok wf all dd))) σ := by
  obtain ⟨a, τ, ⟨a1, a2⟩, a3⟩ := iter8 (A := Int32) (fun g a τ r σ1 => Rn8 mX8_leftBy (d + 2) 5 [.int (nI dd), .int all, .int a, .int (nI g)] (fun _ => []) τ r σ1) (fun g a τ => a = cnt8 (fun g => ok g && wf g dd) g ∧ τ = σ) 31 (by
    rintro g a τ hg ⟨p0, rfl⟩
    refine ⟨_, _, ⟨(cnt8_s (fun g => ok g && wf g dd) g), rfl⟩, fun r σ1 h => ?_⟩
    rw [← p0] at h
    have cg : (nI g).toNatClampNeg = g := cl (by omega)
    refine g8_leftBy_5 ⟨fun q => absurd q (by rw [i32_nlt]; exact nI_le (b := 30) (by omega) (by decide)), fun _ => ⟨vin (by omega) (by decide), fun q => ?_, fun q => ⟨by rw [n21]; exact vin (by omega) (by decide), ?_⟩⟩⟩
    · rw [cg, ho g hg, bi_0] at q
      rw [q] at h
      rw [nI_1]; exact h
    · rw [cg, ho g hg, bi_0, Bool.not_eq_false] at q
      rw [q, Bool.true_and] at h
      rw [n21, cl (by omega), hw g hg, bi_bi, tr_bi, nI_1]
      exact h) 0 0 σ (Nat.zero_le _) ⟨rfl, rfl⟩
  subst a1; subst a2
  exact Tw8.ofR [.int (nI dd), .int all, U_, U_] (by decide) (fun _ => rfl) (fun _ _ => Nat.le_of_ble_eq_true rfl) (g8_leftBy_0 (a3 _ _ (g8_leftBy_5 ⟨fun _ => ⟨rfl, rfl⟩, fun q => absurd (by decide) q⟩)))
/-- the best day among 0 .. j -/
def bestE (lf : Nat → Int32) : Nat → Nat := acc8 (fun j b => if lf b ≤ lf (j + 1) then b else j + 1) 0
theorem bestE_s (lf : Nat → Int32) (j : Nat) : bestE lf (j + 1) = if lf (bestE lf j) ≤ lf (j + 1) then bestE lf j else j + 1 := rfl
theorem bestE_le (lf : Nat → Int32) : ∀ j, bestE lf j ≤ j := by
  intro j
  induction j with
  | zero => exact Nat.le_refl _
  | succ j ih =>
    rw [bestE_s]
    split
    · omega
    · exact Nat.le_refl _
theorem askM (d : Nat) (σ : S8) (what k : Int32) {nm nc ns : Nat} (hR : R8 σ nm nc) (hS : okSt σ ns) : M8 mX8_ask (d + 6) [.int what, .int k] σ (if s8_isIn what 0 1 = 0 then -1 else if growE σ nm nc ns k = 0 then -1 else if what = 0 then nI (bestE (leftE (fun g => okG σ (wasS σ nm nc) k g ns) (wasS σ nm nc) (growE σ nm nc ns k)) 20) else leftE (fun g => okG σ (wasS σ nm nc) k g ns) (wasS σ nm nc) (growE σ nm nc ns k) (bestE (leftE (fun g => okG σ (wasS σ nm nc) k g ns) (wasS σ nm nc) (growE σ nm nc ns k)) 20)) σ := by
  have go : ∀ {r σ1}, _ → Tw8 mX8_ask (d + 6) [.int what, .int k] σ r σ1 := fun h => Tw8.ofR [.int what, .int k, U_, U_, U_] (by decide) (fun _ => rfl) (fun _ _ => Nat.le_of_ble_eq_true rfl) (g8_ask_0 h)
  by_cases h1 : s8_isIn what 0 1 = 0
  · rw [if_pos h1]
    exact ⟨σ, go ⟨fun q => absurd h1 q, fun _ => ⟨rfl, rfl⟩⟩, PK.rf⟩
  rw [if_neg h1]
  by_cases h : nm = 0 ∨ nc = 0
  · have e : growE σ nm nc ns k = 0 := by unfold growE; rw [if_pos h]
    rw [if_pos e]
    exact ⟨σ, go ⟨fun _ => ⟨_, _, layGrowths0 d σ k hR h, fun q => absurd rfl q, fun _ => ⟨rfl, rfl⟩⟩, fun q => absurd q h1⟩, PK.rf⟩
  obtain ⟨σ1, q1, q2, q3, q4⟩ := layGrowthsT8 d σ k hR hS (by omega) (by omega)
  have e : growE σ nm nc ns k = cnt8 (fun g => okG σ (wasS σ nm nc) k g ns) 31 := by unfold growE; rw [if_neg h]
  rw [← e] at q1
  by_cases h2 : growE σ nm nc ns k = 0
  · rw [if_pos h2]
    exact ⟨σ1, go ⟨fun _ => ⟨_, _, q1, fun q => absurd h2 q, fun _ => ⟨rfl, rfl⟩⟩, fun q => absurd q h1⟩, PK.of q2 (by decide)⟩
  rw [if_neg h2]
  generalize growE σ nm nc ns k = all at *
  have lb : ∀ dd, dd ≤ 20 → Tw8 mX8_leftBy (d + 5) [.int (nI dd), .int all] σ1 (some (.int (leftE (fun g => okG σ (wasS σ nm nc) k g ns) (wasS σ nm nc) all dd))) σ1 := fun dd hd => leftByT8 (d + 3) σ1 all (fun g => okG σ (wasS σ nm nc) k g ns) (wasS σ nm nc) hd (fun g hg => q3 g dd hg (by omega)) q4
  generalize leftE (fun g => okG σ (wasS σ nm nc) k g ns) (wasS σ nm nc) all = lf at *
  obtain ⟨a, τ, ⟨a1, a2⟩, a3⟩ := iter8 (A := Nat) (fun j a τ r σ1 => Rn8 mX8_ask (d + 6) 29 [.int what, .int k, .int all, .int (nI a), .int (nI (j + 1))] (fun _ => []) τ r σ1) (fun j a τ => a = bestE lf j ∧ τ = σ1) 20 (by
    rintro j a τ hj ⟨p0, rfl⟩
    refine ⟨_, _, ⟨rfl, rfl⟩, fun r σ1 h => ?_⟩
    have hb := bestE_le lf j
    rw [bestE_s, ← p0] at h
    refine g8_ask_29 ⟨fun q => absurd q (by rw [i32_nlt]; exact nI_le (b := 20) (by omega) (by decide)), fun _ => ⟨_, _, lb (j + 1) (by omega), _, _, lb a (by omega), ?_⟩⟩
    rw [nI_1]
    by_cases c : lf a ≤ lf (j + 1)
    · rw [if_pos c] at h ⊢; exact h
    · rw [if_neg c] at h ⊢; exact h) 0 0 σ1 (Nat.zero_le _) ⟨rfl, rfl⟩
  subst a1; subst a2
  have hb := bestE_le lf 20
  by_cases hw : what = 0
  · rw [if_pos hw]
    exact ⟨_, go ⟨fun _ => ⟨_, _, q1, fun _ => a3 _ _ (g8_ask_29 ⟨fun _ => ⟨fun q => absurd hw q, fun _ => ⟨rfl, rfl⟩⟩, fun q => absurd (by decide) q⟩), fun q => absurd q h2⟩, fun q => absurd q h1⟩, PK.of q2 (by decide)⟩
  · rw [if_neg hw]
    exact ⟨_, go ⟨fun _ => ⟨_, _, q1, fun _ => a3 _ _ (g8_ask_29 ⟨fun _ => ⟨fun _ => ⟨_, _, lb _ hb, rfl, rfl⟩, fun q => absurd q hw⟩, fun q => absurd (by decide) q⟩), fun q => absurd q h2⟩, fun q => absurd q h1⟩, PK.of q2 (by decide)⟩
