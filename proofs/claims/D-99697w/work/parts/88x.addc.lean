/-! the component: its lists, changed -/
set_option maxRecDepth 100000
section Ad
variable {G : Wd} {l : Launch} {hp : Hp} {ρ : Rho} {A : Nat → Nat} {D : Dn} {σ : Sg}
/-- the list at place o is written: modCount, row, how many -/
def upLs (σ : Sg) (o : Nat) (mc : Int32) (ed n : Nat) : Sg := (upA σ.1 o (upd (upd (σ.1 o) 0 mc) 2 (nI n)), σ.2.1, fun q i => if q = o ∧ i = 1 then .ref ed else σ.2.2 q i)
theorem plc_31 {w : Nat} (hw : w < 3) : plc w < 31 := by unfold plc; split <;> omega
theorem ce_ls {w : Nat} (hw : w < 3) : ceR rgM A σ (plc w) = .inr (16, [.int (σ.1 (plc w) 0), σ.2.2 (plc w) 1, .int (σ.1 (plc w) 2)]) := by
  match w, hw with
  | 0, _ => rfl
  | 1, _ => rfl
  | 2, _ => rfl
theorem ce_up {w q : Nat} {mc : Int32} {ed n : Nat} (hq : q ≠ plc w) : ceR rgM A (upLs σ (plc w) mc ed n) q = ceR rgM A σ q := by
  refine ceR_n ?_ (fun j => rfl) (fun j => ?_)
  · show upA σ.1 (plc w) _ q = σ.1 q
    rw [upA_n hq]
  · show (if q = plc w ∧ j = 1 then .ref ed else σ.2.2 q j) = σ.2.2 q j
    rw [if_neg (fun z => hq z.1)]
theorem ce_ups {w : Nat} {mc : Int32} {ed n : Nat} (hw : w < 3) : ceR rgM A (upLs σ (plc w) mc ed n) (plc w) = lsC mc ed n := by
  rw [ce_ls hw]
  have e0 : (upLs σ (plc w) mc ed n).1 (plc w) 0 = mc := by
    show upA σ.1 (plc w) (upd (upd (σ.1 (plc w)) 0 mc) 2 (nI n)) (plc w) 0 = mc
    rw [upA_s, upd_n (by decide), upd_s]
  have e2 : (upLs σ (plc w) mc ed n).1 (plc w) 2 = nI n := by
    show upA σ.1 (plc w) (upd (upd (σ.1 (plc w)) 0 mc) 2 (nI n)) (plc w) 2 = nI n
    rw [upA_s, upd_s]
  have e1 : (upLs σ (plc w) mc ed n).2.2 (plc w) 1 = .ref ed := if_pos ⟨rfl, rfl⟩
  rw [e0, e1, e2]
theorem ov_ls {w : Nat} {mc : Int32} {ed n : Nat} (hA : okA rgM A hp) (hw : w < 3) : hset (ov rgM A σ hp) (A (plc w)) (lsC mc ed n) = ov rgM A (upLs σ (plc w) mc ed n) hp := ov_set hA (plc_31 hw) (ce_ups hw) (fun q _ hq => ce_up hq)
end Ad
