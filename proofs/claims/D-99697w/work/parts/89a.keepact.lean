/-! the component: acts are kept (2) -/
set_option maxRecDepth 100000
section Ka
variable {G : Wd} {l : Launch} {hp : Hp} {ρ : Rho} {fr : Nat → Option va_E} {A : Nat → Nat} {D : Dn} {σ : Sg}
/-- the state with all three lists of the dynamic picture D, and what the region says: one world -/
def Wl (ρ : Rho) (fr : Nat → Option va_E) (A : Nat → Nat) (D : Dn) (σ : Sg) (hp : Hp) : Prop := Bs ρ (ED ρ fr A D) A hp ∧ sgOK D σ ∧ σ.2.2 0 0 = .ref (ρ.1 2)
theorem sgOK.up {w ed cap n : Nat} {mc : Int32} {f : Nat → Option Nat} {el sa : Nat → Nat} {v : Nat → Nat → Int32} (hw : w < 3) (h : sgOK D σ) : sgOK (setL D w ed cap n f el sa v) (upLs σ (plc w) mc ed n) := by
  have pi : ∀ a b, a < 3 → b < 3 → plc a = plc b → a = b := by
    intro a b ha hb
    unfold plc
    split <;> split <;> omega
  refine ⟨fun q hq => ?_, fun b hb => ?_⟩
  · by_cases e : q = w
    · subst e
      rw [setL_row, setL_n]
      refine ⟨if_pos ⟨rfl, rfl⟩, ?_⟩
      show upA σ.1 (plc q) (upd (upd (σ.1 (plc q)) 0 mc) 2 (nI n)) (plc q) 2 = nI n
      rw [upA_s, upd_s]
    · obtain ⟨o1, o2, o3⟩ := setL_o (D := D) (ed := ed) (cap := cap) (n := n) (f := f) (el := el) (sa := sa) (v := v) e hq hw
      have hne : plc q ≠ plc w := fun z => e (pi q w hq hw z)
      rw [o1, o3]
      obtain ⟨h1, h2⟩ := h.1 q hq
      refine ⟨?_, ?_⟩
      · show (if plc q = plc w ∧ 1 = 1 then .ref ed else σ.2.2 (plc q) 1) = _
        rw [if_neg (fun z => hne z.1)]
        exact h1
      · show upA σ.1 (plc w) _ (plc q) 2 = _
        rw [upA_n hne]
        exact h2
  · show (if 27 + b = plc w ∧ 0 = 1 then .ref ed else σ.2.2 (27 + b) 0) = _
    rw [if_neg (fun z => absurd z.2 (by decide))]
    exact h.2 b hb
def upN (f : Nat → Nat) (k x : Nat) : Nat → Nat := fun i => if i = k then x else f i
theorem upN_s {f : Nat → Nat} {k x : Nat} : upN f k x k = x := if_pos rfl
theorem upN_n {f : Nat → Nat} {k x i : Nat} (h : i ≠ k) : upN f k x i = f i := if_neg h
def upV (f : Nat → Nat → Int32) (k : Nat) (x : Nat → Int32) : Nat → Nat → Int32 := fun i => if i = k then x else f i
theorem upV_s {f : Nat → Nat → Int32} {k : Nat} {x : Nat → Int32} : upV f k x k = x := if_pos rfl
theorem upV_n {f : Nat → Nat → Int32} {k i : Nat} {x : Nat → Int32} (h : i ≠ k) : upV f k x i = f i := if_neg h
/-- the rows of the regiment lie apart from the row of list w -/
theorem W_row {w : Nat} (hw : w < 3) (q : DynOK ρ A D hp) (hR : RegOK ρ A hp) : onlyW (fun i => i = dRow D w) hp ∧ (¬ (ρ.1 4 = dRow D w ∧ K0 ≤ ρ.1 4) ∧ ¬ (ρ.1 6 = dRow D w ∧ K0 ≤ ρ.1 6)) := by
  obtain ⟨q1, q2, q3, q4, q5, q6, q7, q8⟩ := q
  refine ⟨fun i hK hi z => ?_, fun z => ?_, fun z => ?_⟩
  · rcases (q1 w hw).2.2.1 with y | y
    · rw [z, y.1] at hK
      exact absurd hK (by decide)
    · rw [z, y.1.2.2.2]; rfl
  · by_cases e : dRow D w = 1
    · rw [z.1, e] at z
      exact absurd z.2 (by decide)
    · exact (q8 w hw e).1 z.1.symm
  · by_cases e : dRow D w = 1
    · rw [z.1, e] at z
      exact absurd z.2 (by decide)
    · exact (q8 w hw e).2 z.1.symm
theorem RegOK.w {w : Nat} {h : Hp} (hw : w < 3) (q : DynOK ρ A D hp) (hR : RegOK ρ A hp) (hx : xt (fun i => i = dRow D w) hp h) : RegOK ρ A h := by
  obtain ⟨w1, w2, w3⟩ := W_row hw q hR
  obtain ⟨r1, r2, r3, r4, r5⟩ := hR
  refine ⟨r1.k rfl hx w1, fun u hu => ?_, fun m hm => (r3 m hm).k rfl hx w1, fun m hm => (r4 m hm).k rfl hx w1, fun z hz => ⟨PartAt.k _ _ _ (r5 z hz).1 hx w1, (r5 z hz).2⟩⟩
  obtain ⟨a1, a2, a3, a4⟩ := r2 u hu
  refine ⟨a1.k rfl hx w1, a2, fun z => ⟨(a3 z).1.x hx (fun e => ?_), (a3 z).2⟩, a4⟩
  match u, hu with
  | 0, _ => exact w2 ⟨e, (a3 z).1.1⟩
  | 1, _ => exact w3 ⟨e, (a3 z).1.1⟩
end Ka
