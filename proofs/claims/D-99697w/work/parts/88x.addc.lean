/-! the component: its lists, changed -/
set_option maxRecDepth 100000
section Ad
variable {G : Wd} {l : Launch} {hp : Hp} {ρ : Rho} {A : Nat → Nat} {D : Dn} {σ : Sg}
/-- the list at place o is written: modCount, row, how many -/
def upLs (σ : Sg) (o : Nat) (mc : Int32) (ed n : Nat) : Sg := (upA σ.1 o (upd (upd (σ.1 o) 0 mc) 2 (nI n)), σ.2.1, fun q i => if q = o ∧ i = 1 then .ref ed else σ.2.2 q i)
theorem plc_31 {w : Nat} (hw : w < 3) : plc w < 31 := by unfold plc; split <;> omega
theorem ce_ls {w : Nat} (hw : w < 3) : ceR rgM A σ (plc w) = .inr (16, [.int (σ.1 (plc w) 0), σ.2.2 (plc w) 1, .int (σ.1 (plc w) 2)]) := by
  match w, hw with
  | 0, _ => rfl
  | 1, _ => rfl
  | 2, _ => rfl
theorem ce_up {w q : Nat} {mc : Int32} {ed n : Nat} (hq : q ≠ plc w) : ceR rgM A (upLs σ (plc w) mc ed n) q = ceR rgM A σ q := by
  refine ceR_n ?_ (fun j => rfl) (fun j => ?_)
  · show upA σ.1 (plc w) _ q = σ.1 q
    rw [upA_n hq]
  · show (if q = plc w ∧ j = 1 then .ref ed else σ.2.2 q j) = σ.2.2 q j
    rw [if_neg (fun z => hq z.1)]
theorem ce_ups {w : Nat} {mc : Int32} {ed n : Nat} (hw : w < 3) : ceR rgM A (upLs σ (plc w) mc ed n) (plc w) = lsC mc ed n := by
  rw [ce_ls hw]
  have e0 : (upLs σ (plc w) mc ed n).1 (plc w) 0 = mc := by
    show upA σ.1 (plc w) (upd (upd (σ.1 (plc w)) 0 mc) 2 (nI n)) (plc w) 0 = mc
    rw [upA_s, upd_n (by decide), upd_s]
  have e2 : (upLs σ (plc w) mc ed n).1 (plc w) 2 = nI n := by
    show upA σ.1 (plc w) (upd (upd (σ.1 (plc w)) 0 mc) 2 (nI n)) (plc w) 2 = nI n
    rw [upA_s, upd_s]
  have e1 : (upLs σ (plc w) mc ed n).2.2 (plc w) 1 = .ref ed := if_pos ⟨rfl, rfl⟩
  rw [e0, e1, e2]
theorem ov_ls {w : Nat} {mc : Int32} {ed n : Nat} (hA : okA rgM A hp) (hw : w < 3) : hset (ov rgM A σ hp) (A (plc w)) (lsC mc ed n) = ov rgM A (upLs σ (plc w) mc ed n) hp := ov_set hA (plc_31 hw) (ce_ups hw) (fun q _ hq => ce_up hq)
theorem upLs2 {o : Nat} {m1 m2 : Int32} {e1 e2 n1 n2 : Nat} : upLs (upLs σ o m1 e1 n1) o m2 e2 n2 = upLs σ o m2 e2 n2 := by
  unfold upLs
  have h1 : upA (upA σ.1 o (upd (upd (σ.1 o) 0 m1) 2 (nI n1))) o (upd (upd (upA σ.1 o (upd (upd (σ.1 o) 0 m1) 2 (nI n1)) o) 0 m2) 2 (nI n2)) = upA σ.1 o (upd (upd (σ.1 o) 0 m2) 2 (nI n2)) := by
    rw [upA_upA, upA_s]
    congr 1
    funext j
    by_cases j2 : j = 2
    · subst j2; rw [upd_s, upd_s]
    · rw [upd_n j2, upd_n j2]
      by_cases j0 : j = 0
      · subst j0; rw [upd_s, upd_s]
      · rw [upd_n j0, upd_n j0, upd_n j2, upd_n j0]
  have h2 : (fun q i => if q = o ∧ i = 1 then (.ref e2 : Value) else if q = o ∧ i = 1 then .ref e1 else σ.2.2 q i) = fun q i => if q = o ∧ i = 1 then .ref e2 else σ.2.2 q i := by
    funext q i
    by_cases z : q = o ∧ i = 1
    · rw [if_pos z, if_pos z]
    · rw [if_neg z, if_neg z, if_neg z]
  dsimp only
  rw [h1, h2]
/-- what adding leaves, seen from the region -/
def adC (A : Nat → Nat) (D : Dn) (σ : Sg) (hp : Hp) (w x : Nat) (h : Hp) : Prop := ∃ (ed cap : Nat) (f : Nat → Option Nat) (hp1 : Hp), h = ov rgM A (upLs σ (plc w) (σ.1 (plc w) 0 + 1) ed (dN D w + 1)) hp1 ∧ xt (fun i => i = dRow D w) hp hp1 ∧ atC A hp1 ed (rwC cap f) ∧ dN D w + 1 ≤ cap ∧ cap ≤ 10 + 2 * dCap D w ∧ (∀ i, i < dN D w → f i = dF D w i) ∧ f (dN D w) = some x ∧ ((dN D w < dCap D w ∧ ed = dRow D w ∧ cap = dCap D w) ∨ (dN D w = dCap D w ∧ ed = hp.2)) ∧ hp1.2 ≤ hp.2 + 1
theorem addC (d : Nat) {w x ci : Nat} {fs : List Value} (hw : w < 3) (hA : okA rgM A hp) (hs : sgOK D σ) (hl : lsOK A D hp w) (hci : okEl ci) (hx : atC A hp x (.inr (ci, fs))) (hel : ∀ i, i < dN D w → ∃ fs, atC A hp (dEl D w i) (.inr (ci, fs))) : Ev G l mJ2_add (d + 6) 1 (10 + 2 * dCap D w) [.ref (A (plc w)), .ref x] (ov rgM A σ hp) (fun v h => v = some (.int 1) ∧ adC A D σ hp w x h) := by
  have hL := ls_at hA hs hw
  have hKL := (hA.1 (plc w) (plc_31 hw)).1
  have hLt := (hA.1 (plc w) (plc_31 hw)).2
  have hK : K0 ≤ hp.2 := by omega
  obtain ⟨l1, l2, l3, l4⟩ := hl
  have hrow : rowK (ov rgM A σ hp) (A (plc w)) (dRow D w) (dCap D w) (dF D w) := by
    rcases l3 with z | ⟨z, z2⟩
    · exact Or.inl z
    · exact Or.inr ⟨z.1, fun e => z.2.2.1 (plc w) (plc_31 hw) e.symm, ⟨z.2.1, by rw [ov_out z.2.2.1]; exact z.2.2.2⟩, z2⟩
  have helC : elC (ov rgM A σ hp) (dF D w) (dN D w) ci := fun i hi y hy => by
    obtain ⟨fs, q⟩ := hel i hi
    have : dEl D w i = y := Option.some.inj ((l4 i hi).symm.trans hy)
    subst this
    exact ⟨q.2.1, fs, by rw [ov_out q.2.2.1]; exact q.2.2.2⟩
  have heL : ∀ i, i < dN D w → dF D w i ≠ some (A (plc w)) := fun i hi e => by
    obtain ⟨fs, q⟩ := hel i hi
    have : dEl D w i = A (plc w) := Option.some.inj ((l4 i hi).symm.trans e)
    exact q.2.2.1 (plc w) (plc_31 hw) this.symm
  refine Ev.mono (ev_add d hL hKL hrow l1 l2 helC hci hK hx.2.1 (by rw [ov_out hx.2.2.1]; exact hx.2.2.2) (fun e => hx.2.2.1 (plc w) (plc_31 hw) e.symm) heL) (fun v h hq => ?_)
  obtain ⟨rfl, hq⟩ := hq
  refine ⟨rfl, ?_⟩
  rw [ov_ls hA hw] at hq
  rcases hq with ⟨q1, q2, q3⟩ | ⟨q1, N, f', q3, q4, q5, q6, q7⟩
  · have hr : atC A hp (dRow D w) (rwC (dCap D w) (dF D w)) := by
      rcases l3 with z | z
      · omega
      · exact z.1
    rw [ov_base hr.2.2.1] at q3
    have hA1 : okA rgM A (hset hp (dRow D w) (rwC (dCap D w) (va_up (dF D w) (dN D w) (some x)))) := hA
    rw [ov_ls hA1 hw, upLs2] at q3
    refine ⟨dRow D w, dCap D w, _, _, q3, ⟨Nat.le_refl _, fun i _ hi => hsN hi⟩, ⟨hr.1, hr.2.1, hr.2.2.1, hsS⟩, by omega, by omega, fun i hi => vup_n (by omega), by unfold va_up; rw [if_pos rfl], Or.inl ⟨q1, rfl, rfl⟩, Nat.le_succ _⟩
  · have e2 : (ov rgM A (upLs σ (plc w) (σ.1 (plc w) 0 + 1) (dRow D w) (dN D w)) hp).2 = hp.2 := rfl
    rw [e2, ov_new hA, ov_ls hA.new hw, upLs2] at q3
    refine ⟨hp.2, N, f', _, q3, ⟨Nat.le_succ _, fun i hi _ => hnN (by omega)⟩, ⟨hK, Nat.lt_succ_self _, out_new hA (Nat.le_refl _), hnS⟩, by omega, q5, q6, q7, Or.inr ⟨q1, rfl⟩, Nat.le_refl _⟩
end Ad
