/-! the component: acts are kept (2) -/
set_option maxRecDepth 100000
section Ka
variable {G : Wd} {l : Launch} {hp : Hp} {ρ : Rho} {fr : Nat → Option va_E} {A : Nat → Nat} {D : Dn} {σ : Sg}
/-- the state with all three lists of the dynamic picture D, and what the region says: one world -/
def Wl (ρ : Rho) (fr : Nat → Option va_E) (A : Nat → Nat) (D : Dn) (σ : Sg) (hp : Hp) : Prop := Bs ρ (ED ρ fr A D) A hp ∧ sgOK D σ ∧ σ.2.2 0 0 = .ref (ρ.1 2)
theorem sgOK.up {w ed cap n : Nat} {mc : Int32} {f : Nat → Option Nat} {el sa : Nat → Nat} {v : Nat → Nat → Int32} (hw : w < 3) (h : sgOK D σ) : sgOK (setL D w ed cap n f el sa v) (upLs σ (plc w) mc ed n) := by
  have pi : ∀ a b, a < 3 → b < 3 → plc a = plc b → a = b := by
    intro a b ha hb
    unfold plc
    split <;> split <;> omega
  refine ⟨fun q hq => ?_, fun b hb => ?_⟩
  · by_cases e : q = w
    · subst e
      rw [setL_row, setL_n]
      refine ⟨if_pos ⟨rfl, rfl⟩, ?_⟩
      show upA σ.1 (plc q) (upd (upd (σ.1 (plc q)) 0 mc) 2 (nI n)) (plc q) 2 = nI n
      rw [upA_s, upd_s]
    · obtain ⟨o1, o2, o3⟩ := setL_o (D := D) (ed := ed) (cap := cap) (n := n) (f := f) (el := el) (sa := sa) (v := v) e hq hw
      have hne : plc q ≠ plc w := fun z => e (pi q w hq hw z)
      rw [o1, o3]
      obtain ⟨h1, h2⟩ := h.1 q hq
      refine ⟨?_, ?_⟩
      · show (if plc q = plc w ∧ 1 = 1 then .ref ed else σ.2.2 (plc q) 1) = _
        rw [if_neg (fun z => hne z.1)]
        exact h1
      · show upA σ.1 (plc w) _ (plc q) 2 = _
        rw [upA_n hne]
        exact h2
  · show (if 27 + b = plc w ∧ 0 = 1 then .ref ed else σ.2.2 (27 + b) 0) = _
    rw [if_neg (fun z => absurd z.2 (by decide))]
    exact h.2 b hb
end Ka
