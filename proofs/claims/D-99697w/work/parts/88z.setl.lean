/-! the dynamic picture, one list of it changed -/
set_option maxRecDepth 100000
def setL (D : Dn) (w ed cap n : Nat) (f : Nat → Option Nat) (el sa : Nat → Nat) (v : Nat → Nat → Int32) : Dn :=
  (fun j => if j = w then ed else if j = 3 + w then cap else if j = 6 + w then n else D.1 j, fun q => if q = w then el else D.2.1 q, fun q => if q = w then sa else D.2.2.1 q, fun q => if q = w then v else D.2.2.2.1 q, fun q => if q = w then f else D.2.2.2.2.1 q, D.2.2.2.2.2)
section Sl
variable {ρ : Rho} {A : Nat → Nat} {D : Dn} {hp h : Hp} {w ed cap n : Nat} {f : Nat → Option Nat} {el sa : Nat → Nat} {v : Nat → Nat → Int32}
theorem setL_row : dRow (setL D w ed cap n f el sa v) w = ed := if_pos rfl
theorem setL_cap : dCap (setL D w ed cap n f el sa v) w = cap := by
  show (if 3 + w = w then ed else if 3 + w = 3 + w then cap else _) = cap
  rw [if_neg (by omega), if_pos rfl]
theorem setL_n : dN (setL D w ed cap n f el sa v) w = n := by
  show (if 6 + w = w then ed else if 6 + w = 3 + w then cap else if 6 + w = 6 + w then n else _) = n
  rw [if_neg (by omega), if_neg (by omega), if_pos rfl]
theorem setL_el : D.2.1 = D.2.1 ∧ (setL D w ed cap n f el sa v).2.1 w = el := ⟨rfl, if_pos rfl⟩
theorem setL_sa : (setL D w ed cap n f el sa v).2.2.1 w = sa := if_pos rfl
theorem setL_v : (setL D w ed cap n f el sa v).2.2.2.1 w = v := if_pos rfl
theorem setL_f : (setL D w ed cap n f el sa v).2.2.2.2.1 w = f := if_pos rfl
theorem setL_o {q : Nat} (hq : q ≠ w) (hq3 : q < 3) (hw : w < 3) : dRow (setL D w ed cap n f el sa v) q = dRow D q ∧ dCap (setL D w ed cap n f el sa v) q = dCap D q ∧ dN (setL D w ed cap n f el sa v) q = dN D q := by
  refine ⟨?_, ?_, ?_⟩
  · show (if q = w then ed else if q = 3 + w then cap else if q = 6 + w then n else D.1 q) = D.1 q
    rw [if_neg hq, if_neg (by omega), if_neg (by omega)]
  · show (if 3 + q = w then ed else if 3 + q = 3 + w then cap else if 3 + q = 6 + w then n else D.1 (3 + q)) = D.1 (3 + q)
    rw [if_neg (by omega), if_neg (by omega), if_neg (by omega)]
  · show (if 6 + q = w then ed else if 6 + q = 3 + w then cap else if 6 + q = 6 + w then n else D.1 (6 + q)) = D.1 (6 + q)
    rw [if_neg (by omega), if_neg (by omega), if_neg (by omega)]
theorem setL_oe {q : Nat} (hq : q ≠ w) : (setL D w ed cap n f el sa v).2.1 q = D.2.1 q ∧ (setL D w ed cap n f el sa v).2.2.1 q = D.2.2.1 q ∧ (setL D w ed cap n f el sa v).2.2.2.1 q = D.2.2.2.1 q ∧ (setL D w ed cap n f el sa v).2.2.2.2.1 q = D.2.2.2.2.1 q := ⟨if_neg hq, if_neg hq, if_neg hq, if_neg hq⟩
/-- no element is a row -/
theorem ne_row {a : Nat} {ci : Nat} {fs : List Value} (hl : lsOK A D hp w) (ha : atC A hp a (.inr (ci, fs))) : a ≠ dRow D w := by
  intro e
  rcases hl.2.2.1 with z | z
  · have := ha.1
    rw [e, z.1] at this
    exact absurd this (by decide)
  · have := z.1.2.2.2
    rw [← e, ha.2.2.2] at this
    cases this
theorem setL_ok (hw : w < 3) (q : DynOK ρ A D hp) (hx : xt (fun i => i = dRow D w) hp h)
    (c1 : n ≤ cap ∧ cap ≤ 100) (c2 : (ed = 1 ∧ cap = 0) ∨ (atC A h ed (rwC cap f) ∧ 0 < cap)) (c3 : ∀ i, i < n → f i = some (el i))
    (c4 : w < 2 → ∀ i, i < n → atC A h (el i) (.inr (7, [.ref (sa i)])) ∧ StAt A h (sa i) (v i))
    (c5 : w = 2 → ∀ i, i < n → atC A h (el i) (sgC (v i)))
    (c6 : ∀ i j, i < n → j < n → el i = el j → i = j)
    (c7 : w < 2 → ∀ i j, i < n → j < dN D (1 - w) → el i ≠ dEl D (1 - w) j)
    (c8 : ed ≠ 1 → (∀ q, q < 3 → q ≠ w → ed ≠ dRow D q) ∧ ed ≠ ρ.1 4 ∧ ed ≠ ρ.1 6) : DynOK ρ A (setL D w ed cap n f el sa v) h := by
  obtain ⟨q1, q2, q3, q4, q5, q6, q7, q8⟩ := q
  have hW : onlyW (fun i => i = dRow D w) hp := fun i hK hi z => by
    rcases (q1 w hw).2.2.1 with y | y
    · rw [z, y.1] at hK
      exact absurd hK (by decide)
    · rw [z, y.1.2.2.2]; rfl
  have el7 : ∀ q, q < 2 → q ≠ w → ∀ i, i < dN D q → atC A h (dEl D q i) (.inr (7, [.ref (dSa D q i)])) ∧ StAt A h (dSa D q i) (dV D q i) := fun q hq _ i hi => ⟨(q2 q hq i hi).1.x hx (ne_row (q1 w hw) (q2 q hq i hi).1), (q2 q hq i hi).2.k hx hW⟩
  refine ⟨fun q hq => ?_, fun q hq i hi => ?_, fun a b i j ha hb hi hj e => ?_, fun i hi => ?_, fun i j hi hj e => ?_, fun b hb s hs => ?_, fun a b ha hb hab h1 => ?_, fun a ha h1 => ?_⟩
  · by_cases e : q = w
    · subst e
      unfold lsOK
      rw [setL_row, setL_cap, setL_n, show dF (setL D q ed cap n f el sa v) q = f from setL_f]
      refine ⟨c1.1, c1.2, c2, fun i hi => ?_⟩
      rw [show dEl (setL D q ed cap n f el sa v) q i = el i by show (setL D q ed cap n f el sa v).2.1 q i = el i; rw [setL_el.2]]
      exact c3 i hi
    · obtain ⟨o1, o2, o3⟩ := setL_o (D := D) (ed := ed) (cap := cap) (n := n) (f := f) (el := el) (sa := sa) (v := v) e hq hw
      obtain ⟨p1, p2, p3, p4⟩ := setL_oe (D := D) (ed := ed) (cap := cap) (n := n) (f := f) (el := el) (sa := sa) (v := v) e
      obtain ⟨a1, a2, a3, a4⟩ := q1 q hq
      unfold lsOK
      rw [o1, o2, o3, show dF (setL D w ed cap n f el sa v) q = dF D q from p4]
      refine ⟨a1, a2, ?_, fun i hi => ?_⟩
      · rcases a3 with z | z
        · exact Or.inl z
        · refine Or.inr ⟨z.1.x hx (q7 q w hq hw e (fun y => ?_)), z.2⟩
          have := z.1.1
          rw [y] at this
          exact absurd this (by decide)
      · rw [show dEl (setL D w ed cap n f el sa v) q i = dEl D q i by show (setL D w ed cap n f el sa v).2.1 q i = _; rw [p1]]
        exact a4 i hi
  · by_cases e : q = w
    · subst e
      rw [setL_n] at hi
      show atC A h ((setL D q ed cap n f el sa v).2.1 q i) (.inr (7, [.ref ((setL D q ed cap n f el sa v).2.2.1 q i)])) ∧ StAt A h ((setL D q ed cap n f el sa v).2.2.1 q i) ((setL D q ed cap n f el sa v).2.2.2.1 q i)
      rw [setL_el.2, setL_sa, setL_v]
      exact c4 hq i hi
    · obtain ⟨o1, o2, o3⟩ := setL_o (D := D) (ed := ed) (cap := cap) (n := n) (f := f) (el := el) (sa := sa) (v := v) e (by omega) hw
      obtain ⟨p1, p2, p3, p4⟩ := setL_oe (D := D) (ed := ed) (cap := cap) (n := n) (f := f) (el := el) (sa := sa) (v := v) e
      rw [o3] at hi
      show atC A h ((setL D w ed cap n f el sa v).2.1 q i) (.inr (7, [.ref ((setL D w ed cap n f el sa v).2.2.1 q i)])) ∧ StAt A h ((setL D w ed cap n f el sa v).2.2.1 q i) ((setL D w ed cap n f el sa v).2.2.2.1 q i)
      rw [p1, p2, p3]
      exact el7 q hq e i hi
  · have ea : ∀ q, q < 2 → ∀ i, dEl (setL D w ed cap n f el sa v) q i = if q = w then el i else dEl D q i := fun q _ i => by
      show (if q = w then el else D.2.1 q) i = _
      by_cases e : q = w
      · rw [if_pos e, if_pos e]
      · rw [if_neg e, if_neg e]
    have en : ∀ q, q < 2 → dN (setL D w ed cap n f el sa v) q = if q = w then n else dN D q := fun q hq => by
      by_cases e : q = w
      · subst e; rw [if_pos rfl, setL_n]
      · rw [if_neg e, (setL_o e (by omega) hw).2.2]
    rw [ea a ha, ea b hb] at e
    rw [en a ha] at hi
    rw [en b hb] at hj
    by_cases e1 : a = w
    · subst e1
      rw [if_pos rfl] at hi e
      by_cases e2 : b = a
      · subst e2
        rw [if_pos rfl] at hj e
        exact ⟨rfl, c6 i j hi hj e⟩
      · rw [if_neg e2] at hj e
        have eb : b = 1 - a := by omega
        subst eb
        exact absurd e (c7 ha i j hi hj)
    · rw [if_neg e1] at hi e
      by_cases e2 : b = w
      · subst e2
        rw [if_pos rfl] at hj e
        have eb : a = 1 - b := by omega
        subst eb
        exact absurd e.symm (c7 hb j i hj hi)
      · rw [if_neg e2] at hj e
        exact q3 a b i j ha hb hi hj e
  · by_cases e : 2 = w
    · subst e
      rw [setL_n] at hi
      show atC A h ((setL D 2 ed cap n f el sa v).2.1 2 i) (sgC ((setL D 2 ed cap n f el sa v).2.2.2.1 2 i))
      rw [setL_el.2, setL_v]
      exact c5 rfl i hi
    · obtain ⟨o1, o2, o3⟩ := setL_o (D := D) (ed := ed) (cap := cap) (n := n) (f := f) (el := el) (sa := sa) (v := v) e (by decide) hw
      obtain ⟨p1, p2, p3, p4⟩ := setL_oe (D := D) (ed := ed) (cap := cap) (n := n) (f := f) (el := el) (sa := sa) (v := v) e
      rw [o3] at hi
      show atC A h ((setL D w ed cap n f el sa v).2.1 2 i) (sgC ((setL D w ed cap n f el sa v).2.2.2.1 2 i))
      rw [p1, p3]
      exact (q4 i hi).x hx (ne_row (q1 w hw) (q4 i hi))
  · by_cases e1 : 2 = w
    · subst e1
      rw [setL_n] at hi hj
      have e' : (setL D 2 ed cap n f el sa v).2.1 2 i = (setL D 2 ed cap n f el sa v).2.1 2 j := e
      rw [setL_el.2] at e'
      exact c6 i j hi hj e'
    · rw [(setL_o e1 (by decide) hw).2.2] at hi hj
      have e' : (setL D w ed cap n f el sa v).2.1 2 i = (setL D w ed cap n f el sa v).2.1 2 j := e
      rw [(setL_oe e1).1] at e'
      exact q5 i j hi hj e'
  · have ev : dV (setL D w ed cap n f el sa v) 3 b = dV D 3 b := by
      show (setL D w ed cap n f el sa v).2.2.2.1 3 b = _
      rw [(setL_oe (by omega)).2.2.1]
    rw [ev]
    exact (q6 b hb s hs).k hx hW
  · have er : ∀ q, q < 3 → dRow (setL D w ed cap n f el sa v) q = if q = w then ed else dRow D q := fun q hq => by
      by_cases e : q = w
      · subst e; rw [if_pos rfl, setL_row]
      · rw [if_neg e, (setL_o e hq hw).1]
    rw [er a ha] at h1 ⊢
    rw [er b hb]
    by_cases e1 : a = w
    · subst e1
      rw [if_pos rfl] at h1 ⊢
      rw [if_neg (fun z => hab z.symm)]
      exact (c8 h1).1 b hb (fun z => hab z.symm)
    · rw [if_neg e1] at h1 ⊢
      by_cases e2 : b = w
      · subst e2
        rw [if_pos rfl]
        intro z
        by_cases y : ed = 1
        · exact h1 (z.trans y)
        · exact (c8 y).1 a ha e1 z.symm
      · rw [if_neg e2]
        exact q7 a b ha hb hab h1
  · by_cases e1 : a = w
    · subst e1
      rw [setL_row] at h1 ⊢
      exact (c8 h1).2
    · rw [(setL_o e1 ha hw).1] at h1 ⊢
      exact q8 a ha h1
end Sl
