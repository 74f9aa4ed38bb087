/-! the component: its lists, less -/
set_option maxRecDepth 100000
section Rm
variable {G : Wd} {l : Launch} {hp : Hp} {ρ : Rho} {A : Nat → Nat} {D : Dn} {σ : Sg}
theorem lsF {w ci : Nat} (hw : w < 3) (hl : lsOK A D hp w) (hel : ∀ i, i < dN D w → ∃ fs, atC A hp (dEl D w i) (.inr (ci, fs))) : elC (ov rgM A σ hp) (dF D w) (dN D w) ci ∧ ∀ i, i < dN D w → dF D w i ≠ some (A (plc w)) := by
  obtain ⟨l1, l2, l3, l4⟩ := hl
  refine ⟨fun i hi y hy => ?_, fun i hi e => ?_⟩
  · obtain ⟨fs, q⟩ := hel i hi
    have : dEl D w i = y := Option.some.inj ((l4 i hi).symm.trans hy)
    subst this
    exact ⟨q.2.1, fs, by rw [ov_out q.2.2.1]; exact q.2.2.2⟩
  · obtain ⟨fs, q⟩ := hel i hi
    have : dEl D w i = A (plc w) := Option.some.inj ((l4 i hi).symm.trans e)
    exact q.2.2.1 (plc w) (plc_31 hw) this.symm
def rmC (A : Nat → Nat) (D : Dn) (σ : Sg) (hp : Hp) (w i : Nat) (h : Hp) : Prop := ∃ f, h = ov rgM A (upLs σ (plc w) (σ.1 (plc w) 0 + 1) (dRow D w) (dN D w - 1)) (hset hp (dRow D w) (rwC (dCap D w) f)) ∧ ∀ j, j < dN D w - 1 → f j = if j < i then dF D w j else dF D w (j + 1)
theorem removeC (d : Nat) {w i ci : Nat} (hw : w < 3) (hA : okA rgM A hp) (hs : sgOK D σ) (hl : lsOK A D hp w) (hci : okEl ci) (hi : i < dN D w) (hel : ∀ i, i < dN D w → ∃ fs, atC A hp (dEl D w i) (.inr (ci, fs))) : Ev G l mJ2_remove (d + 3) 0 0 [.ref (A (plc w)), .int (nI i)] (ov rgM A σ hp) (fun v h => v = some (.ref (dEl D w i)) ∧ rmC A D σ hp w i h) := by
  have hL := ls_at hA hs hw
  have hKL := (hA.1 (plc w) (plc_31 hw)).1
  obtain ⟨f1, f2⟩ := lsF (σ := σ) hw hl hel
  obtain ⟨l1, l2, l3, l4⟩ := hl
  have hr : atC A hp (dRow D w) (rwC (dCap D w) (dF D w)) := by
    rcases l3 with z | z
    · omega
    · exact z.1
  refine Ev.mono (ev_remove d hL hKL hr.1 (fun e => hr.2.2.1 (plc w) (plc_31 hw) e.symm) ⟨hr.2.1, by rw [ov_out hr.2.2.1]; exact hr.2.2.2⟩ hi l1 (Nat.le_trans l2 (by decide)) f1 hci f2 (l4 i hi)) (fun v h hq => ?_)
  obtain ⟨rfl, f', q1, q2⟩ := hq
  rw [ov_base hr.2.2.1] at q1
  have hA1 : okA rgM A (hset hp (dRow D w) (rwC (dCap D w) f')) := hA
  rw [ov_ls hA1 hw] at q1
  exact ⟨rfl, f', q1, q2⟩
def clC (A : Nat → Nat) (D : Dn) (σ : Sg) (hp : Hp) (w : Nat) (h : Hp) : Prop := ∃ hp1, h = ov rgM A (upLs σ (plc w) (σ.1 (plc w) 0 + 1) (dRow D w) 0) hp1 ∧ xt (fun i => i = dRow D w) hp hp1 ∧ hp1.2 = hp.2 ∧ ((dRow D w = 1 ∧ dCap D w = 0) ∨ ∃ f, atC A hp1 (dRow D w) (rwC (dCap D w) f) ∧ 0 < dCap D w)
theorem clearC (d : Nat) {w : Nat} (hw : w < 3) (hA : okA rgM A hp) (hs : sgOK D σ) (hl : lsOK A D hp w) : Ev G l mJ2_clear (d + 1) 0 0 [.ref (A (plc w))] (ov rgM A σ hp) (fun v h => v = none ∧ clC A D σ hp w h) := by
  have hL := ls_at hA hs hw
  have hKL := (hA.1 (plc w) (plc_31 hw)).1
  obtain ⟨l1, l2, l3, l4⟩ := hl
  have hrow : rowK (ov rgM A σ hp) (A (plc w)) (dRow D w) (dCap D w) (dF D w) := by
    rcases l3 with z | ⟨z, z2⟩
    · exact Or.inl z
    · exact Or.inr ⟨z.1, fun e => z.2.2.1 (plc w) (plc_31 hw) e.symm, ⟨z.2.1, by rw [ov_out z.2.2.1]; exact z.2.2.2⟩, z2⟩
  refine Ev.mono (ev_clear d hL hKL hrow l1 (Nat.le_trans l2 (by decide))) (fun v h hq => ?_)
  obtain ⟨rfl, hq⟩ := hq
  refine ⟨rfl, ?_⟩
  rcases hq with ⟨q1, q2⟩ | ⟨f', q1, q2⟩
  · rw [ov_ls hA hw] at q2
    refine ⟨hp, q2, xt.rf.mo (fun _ _ z => z), rfl, ?_⟩
    rcases l3 with z | ⟨z, z2⟩
    · exact Or.inl z
    · exact Or.inr ⟨_, z, z2⟩
  · rcases l3 with z | ⟨z, z2⟩
    · rw [z.1] at q1
      exact absurd q1 (by decide)
    · rw [ov_base z.2.2.1] at q2
      have hA1 : okA rgM A (hset hp (dRow D w) (rwC (dCap D w) f')) := hA
      rw [ov_ls hA1 hw] at q2
      exact ⟨_, q2, ⟨Nat.le_refl _, fun i _ hi => hsN hi⟩, rfl, Or.inr ⟨f', ⟨z.1, z.2.1, z.2.2.1, hsS⟩, z2⟩⟩
end Rm
