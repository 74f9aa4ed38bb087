/-! the component: how much the first one grows -/
set_option maxRecDepth 100000
section Gr
variable {ρ : Rho} {fr : Nat → Option va_E} {A : Nat → Nat} {D : Dn} {σ : Sg}
theorem sgOK.kc {B : List Nat} {σ1 : Sg} (h : sgOK D σ) (k : kc B σ σ1) (hB : 17 ∉ B ∧ 18 ∉ B ∧ 24 ∉ B) : sgOK D σ1 := by
  refine ⟨fun w hw => ?_, fun b hb => by rw [k.1]; exact h.2 b hb⟩
  rw [k.1]
  have e : σ1.1 (plc w) = σ.1 (plc w) := by
    match w, hw with
    | 0, _ => exact k.2 17 hB.1
    | 1, _ => exact k.2 18 hB.2.1
    | 2, _ => exact k.2 24 hB.2.2
  rw [e]
  exact h.1 w hw
/-- what was seen is well told -/
def okSg (D : Dn) : Prop := ∀ j, j < dN D 2 → ∃ dj, dj ≤ 20 ∧ dV D 2 j 0 = nI dj
abbrev okC (ρ : Rho) (D : Dn) (k : Int32) (g : Nat) : Bool := okGC D (wfC ρ) k g (dN D 2)
def growCE (ρ : Rho) (D : Dn) (k : Int32) : Int32 := if ρ.1 0 = 0 ∨ ρ.1 1 = 0 then 0 else cnt8 (okC ρ D k) 31
theorem growC (d : Nat) (k : Int32) (hT : tlV ρ) (hO : okB ρ) (hs : sgOK D σ) (hS : okSg D) : ∃ σ1, Tv ρ (ED ρ fr A D) A mX0_growths (d + 304) 31 124 [.ref (A 0), .int k] σ (some (.int (growCE ρ D k))) σ1 ∧ kc lpl σ σ1 ∧ (0 < ρ.1 0 → 0 < ρ.1 1 → ∀ g dd, g ≤ 30 → dd ≤ 20 → σ1.1 25 (21 * g + dd) = bi (wfC ρ g dd)) := by
  have h6 := hT.1
  have h6c := hT.2.1
  have go : ∀ {r σ1}, σ1.2 = σ.2 → _ → Tv ρ (ED ρ fr A D) A mX0_growths (d + 304) 31 124 [.ref (A 0), .int k] σ r σ1 := fun h2 h => Tv.of [.ref (A 0), .int k, U_, U_] (by decide) rfl (fun _ => Nat.le_of_ble_eq_true rfl) h2 (gc_X0_growths_0 ⟨_, _, menC (d + 301), h⟩)
  unfold growCE
  by_cases z0 : ρ.1 0 = 0
  · rw [if_pos (Or.inl z0)]
    exact ⟨σ, go rfl ⟨fun _ => ⟨rfl, rfl⟩, fun q => absurd (by rw [z0]; rfl) q⟩, kc.rf, fun q => absurd z0 (by omega)⟩
  have n0 : ¬ nI (ρ.1 0) = 0 := nI_ne0 (by omega) (by omega)
  by_cases z1 : ρ.1 1 = 0
  · rw [if_pos (Or.inr z1)]
    exact ⟨σ, go rfl ⟨fun q => absurd q n0, fun _ => ⟨_, _, coatsC (d + 301), fun q => absurd (by rw [z1]; rfl) q, fun _ => ⟨rfl, rfl⟩⟩⟩, kc.rf, fun _ q => absurd z1 (by omega)⟩
  have n1 : ¬ nI (ρ.1 1) = 0 := nI_ne0 (by omega) (by omega)
  rw [if_neg (fun q => q.elim z0 z1)]
  obtain ⟨σ0, l1, l2, l3⟩ := layC d (E := ED ρ fr A D) (A := A) (σ := σ) hT hO (by omega) (by omega)
  have hs0 : sgOK D σ0 := hs.kc l2 (by decide)
  obtain ⟨a, τ, ⟨a1, a2⟩, a3⟩ := iterC (T := Int32) (fun g a τ r σ1 => Rv ρ (ED ρ fr A D) A mX0_growths (d + 304) (31 - g) (124 - 4 * g) 24 [.ref (A 0), .int k, .int a, .int (nI g)] [] τ r σ1) (fun g a τ => a = cnt8 (okC ρ D k) g ∧ τ = σ0) 31 (by
    rintro g a τ hg ⟨q0, rfl⟩
    have hi := isSoC (d + 300) (ρ := ρ) (fr := fr) (A := A) (D := D) (σ := τ) (g := g) k (wfC ρ) hs0 (by omega) hS (fun dd hdd => l3 g dd (by omega) hdd)
    refine ⟨_, τ, ⟨rfl, rfl⟩, fun r σ1 h => ?_⟩
    refine gc_X0_growths_24 ⟨fun q => absurd q (by rw [i32_nlt]; exact nI_le (b := 30) (by omega) (by decide)), fun _ => ⟨1, 4, _, τ, hi, ⟨by omega, by omega⟩, ?_⟩⟩
    rw [q0, cntB (okC ρ D k), nI_1, show 31 - g - 1 = 31 - (g + 1) by omega, show 124 - 4 * g - 4 = 124 - 4 * (g + 1) by omega]
    exact h) 0 0 σ0 (Nat.zero_le _) ⟨rfl, rfl⟩
  subst a2
  refine ⟨τ, go l2.1 ⟨fun q => absurd q n0, fun _ => ⟨_, _, coatsC (d + 301), fun _ => ⟨τ, l1, a3 _ _ (gc_X0_growths_24 ⟨fun _ => ⟨by rw [a1], rfl⟩, fun q => absurd (by decide) q⟩)⟩, fun q => absurd q n1⟩⟩, l2, fun _ _ => l3⟩
end Gr
