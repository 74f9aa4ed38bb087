/-! the dynamic world: acts, undone, sights, images; what outlives a change -/
set_option maxRecDepth 100000
/-- a state that isn't written any more: at s, its vector v -/
def StAt (A : Nat → Nat) (hp : Hp) (s : Nat) (v : Nat → Int32) : Prop := ∃ (g : Nat → Nat) (t : Nat → Int32), atC A hp s (stC g t) ∧ (t 0 = v 36 ∧ t 1 = v 37 ∧ t 2 = v 38) ∧ ∀ p, p < 6 → ∃ f, atC A hp (g p) (rw6 f) ∧ ∀ k, k < 6 → f k = v (6 * p + k)
/-- cells that are never written once they are made (rows of references, Kept, Sight may be) -/
def frk (e : va_E) : Bool := match e with
  | .inl (t, _) => t != 4
  | .inr (ci, _) => ci != 7 && (ci != 15 && ci != 17)
/-- from hp to h: nothing but W is written; more may be made -/
def xt (W : Nat → Prop) (hp h : Hp) : Prop := hp.2 ≤ h.2 ∧ ∀ i, i < hp.2 → ¬ W i → h.1 i = hp.1 i
theorem xt.rf {W : Nat → Prop} {hp : Hp} : xt W hp hp := ⟨Nat.le_refl _, fun _ _ _ => rfl⟩
theorem xt.tr {W W' : Nat → Prop} {hp h h' : Hp} (a : xt W hp h) (b : xt W' h h') : xt (fun i => W i ∨ W' i) hp h' :=
  ⟨Nat.le_trans a.1 b.1, fun i hi hw => (b.2 i (Nat.lt_of_lt_of_le hi a.1) (fun z => hw (Or.inr z))).trans (a.2 i hi (fun z => hw (Or.inl z)))⟩
theorem xt.mo {W W' : Nat → Prop} {hp h : Hp} (a : xt W hp h) (hw : ∀ i, i < hp.2 → W i → W' i) : xt W' hp h := ⟨a.1, fun i hi z => a.2 i hi (fun q => z (hw i hi q))⟩
section Dy
variable {A : Nat → Nat} {hp h : Hp} {W : Nat → Prop}
theorem atC.x {a : Nat} {e : va_E} (ha : atC A hp a e) (hx : xt W hp h) (hW : ¬ W a) : atC A h a e := ⟨ha.1, Nat.lt_of_lt_of_le ha.2.1 hx.1, ha.2.2.1, by rw [hx.2 a ha.2.1 hW]; exact ha.2.2.2⟩
/-- only cells that may be written are written -/
def onlyW (W : Nat → Prop) (hp : Hp) : Prop := ∀ i, K0 ≤ i → i < hp.2 → W i → frk (hp.1 i) = false
theorem atC.k {a : Nat} {e : va_E} (ha : atC A hp a e) (he : frk e = true) (hx : xt W hp h) (hW : onlyW W hp) : atC A h a e :=
  ha.x hx (fun z => by
    have := hW a ha.1 ha.2.1 z
    rw [ha.2.2.2, he] at this
    cases this)
theorem StAt.k {s : Nat} {v : Nat → Int32} (hs : StAt A hp s v) (hx : xt W hp h) (hW : onlyW W hp) : StAt A h s v := by
  obtain ⟨g, t, h1, h2, h3⟩ := hs
  refine ⟨g, t, h1.k rfl hx hW, h2, fun p hp' => ?_⟩
  obtain ⟨f, f1, f2⟩ := h3 p hp'
  exact ⟨f, f1.k rfl hx hW, f2⟩
theorem okA.x {R : Rg} (hA : okA R A hp) (hx : xt W hp h) : okA R A h := ⟨fun o ho => ⟨(hA.1 o ho).1, Nat.lt_of_lt_of_le (hA.1 o ho).2 hx.1⟩, hA.2⟩
theorem PartAt.k : ∀ (n p : Nat) (L : List (Int32 × Int32)), PartAt A hp n p L → xt W hp h → onlyW W hp → PartAt A h n p L := by
  intro n
  induction n with
  | zero => intro p L q; exact absurd q (fun z => z)
  | succ n ih =>
    intro p L q hx hW
    rcases q with ⟨v, q1, q2⟩ | ⟨w, q0, q1, q2⟩ | ⟨a, L1, q1, q2, q3⟩ | ⟨s, a, b, L1, L2, q1, q2, q3, q4⟩
    · exact Or.inl ⟨v, q1.k rfl hx hW, q2⟩
    · exact Or.inr (Or.inl ⟨w, q0, q1.k rfl hx hW, q2⟩)
    · exact Or.inr (Or.inr (Or.inl ⟨a, L1, q1.k rfl hx hW, ih _ _ q2 hx hW, q3⟩))
    · exact Or.inr (Or.inr (Or.inr ⟨s, a, b, L1, L2, q1.k rfl hx hW, ih _ _ q2 hx hW, ih _ _ q3 hx hW, q4⟩))
theorem RegOK.k {ρ : Rho} (q : RegOK ρ A hp) (hx : xt W hp h) (hW : onlyW W hp) (hr : ¬ W (ρ.1 4) ∧ ¬ W (ρ.1 6)) : RegOK ρ A h := by
  obtain ⟨q1, q2, q3, q4, q5⟩ := q
  refine ⟨q1.k rfl hx hW, fun w hw => ?_, fun m hm => (q3 m hm).k rfl hx hW, fun m hm => (q4 m hm).k rfl hx hW, fun z hz => ⟨PartAt.k _ _ _ (q5 z hz).1 hx hW, (q5 z hz).2⟩⟩
  obtain ⟨a1, a2, a3, a4⟩ := q2 w hw
  refine ⟨a1.k rfl hx hW, a2, fun z => ⟨(a3 z).1.x hx ?_, (a3 z).2⟩, a4⟩
  match w, hw with
  | 0, _ => exact hr.1
  | 1, _ => exact hr.2
end Dy
/-- the dynamic picture: numbers (w: the row of list w; 3 + w its length; 6 + w how many; lists: 0 acts, 1 undone, 2 sights); elements; states of the Kept; vectors (0 1 of the Kept's states, 2 of the sights, 3 of the images); the rows; the images -/
abbrev Dn : Type := (Nat → Nat) × (Nat → Nat → Nat) × (Nat → Nat → Nat) × (Nat → Nat → Nat → Int32) × (Nat → Nat → Option Nat) × (Nat → Option Nat)
abbrev dRow (D : Dn) (w : Nat) : Nat := D.1 w
abbrev dCap (D : Dn) (w : Nat) : Nat := D.1 (3 + w)
abbrev dN (D : Dn) (w : Nat) : Nat := D.1 (6 + w)
abbrev dEl (D : Dn) (w i : Nat) : Nat := D.2.1 w i
abbrev dSa (D : Dn) (w i : Nat) : Nat := D.2.2.1 w i
abbrev dV (D : Dn) (w i : Nat) : Nat → Int32 := D.2.2.2.1 w i
abbrev dF (D : Dn) (w : Nat) : Nat → Option Nat := D.2.2.2.2.1 w
abbrev dBx (D : Dn) (b : Nat) : Option Nat := D.2.2.2.2.2 b
def plc (w : Nat) : Nat := if w = 2 then 24 else 17 + w
def bxV (D : Dn) (b : Nat) : Value := match dBx D b with
  | none => .null
  | some s => .ref s
/-- what the component's own cells say of it -/
def sgOK (D : Dn) (σ : Sg) : Prop := (∀ w, w < 3 → σ.2.2 (plc w) 1 = .ref (dRow D w) ∧ σ.1 (plc w) 2 = nI (dN D w)) ∧ ∀ b, b < 3 → σ.2.2 (27 + b) 0 = bxV D b
def lsOK (A : Nat → Nat) (D : Dn) (hp : Hp) (w : Nat) : Prop := dN D w ≤ dCap D w ∧ dCap D w ≤ 100 ∧ ((dRow D w = 1 ∧ dCap D w = 0) ∨ (atC A hp (dRow D w) (rwC (dCap D w) (dF D w)) ∧ 0 < dCap D w)) ∧ ∀ i, i < dN D w → dF D w i = some (dEl D w i)
abbrev sgC (v : Nat → Int32) : va_E := .inr (15, [.int (v 0), .int (v 1), .int (v 2), .int (v 3)])
def DynOK (ρ : Rho) (A : Nat → Nat) (D : Dn) (hp : Hp) : Prop :=
  (∀ w, w < 3 → lsOK A D hp w) ∧
  (∀ w, w < 2 → ∀ i, i < dN D w → atC A hp (dEl D w i) (.inr (7, [.ref (dSa D w i)])) ∧ StAt A hp (dSa D w i) (dV D w i)) ∧
  (∀ w w' i i', w < 2 → w' < 2 → i < dN D w → i' < dN D w' → dEl D w i = dEl D w' i' → w = w' ∧ i = i') ∧
  (∀ i, i < dN D 2 → atC A hp (dEl D 2 i) (sgC (dV D 2 i))) ∧
  (∀ i i', i < dN D 2 → i' < dN D 2 → dEl D 2 i = dEl D 2 i' → i = i') ∧
  (∀ b, b < 3 → ∀ s, dBx D b = some s → StAt A hp s (dV D 3 b)) ∧
  (∀ w w', w < 3 → w' < 3 → w ≠ w' → dRow D w ≠ 1 → dRow D w ≠ dRow D w') ∧
  ∀ w, w < 3 → dRow D w ≠ 1 → dRow D w ≠ ρ.1 4 ∧ dRow D w ≠ ρ.1 6
/-- other cells, that stay -/
def Fr (fr : Nat → Option va_E) (A : Nat → Nat) (hp : Hp) : Prop := ∀ a e, fr a = some e → frk e = true ∧ atC A hp a e
def ED (ρ : Rho) (fr : Nat → Option va_E) (A : Nat → Nat) (D : Dn) (hp : Hp) : Prop := DynOK ρ A D hp ∧ Fr fr A hp
theorem Fr.k {fr : Nat → Option va_E} {A : Nat → Nat} {hp h : Hp} {W : Nat → Prop} (q : Fr fr A hp) (hx : xt W hp h) (hW : onlyW W hp) : Fr fr A h := fun a e he => ⟨(q a e he).1, (q a e he).2.k (q a e he).1 hx hW⟩
/-- nothing dynamic is written -/
theorem DynOK.k {ρ : Rho} {A : Nat → Nat} {D : Dn} {hp h : Hp} (q : DynOK ρ A D hp) (hx : xt (fun _ => False) hp h) : DynOK ρ A D h := by
  obtain ⟨q1, q2, q3, q4, q5, q6, q7, q8⟩ := q
  have hW : onlyW (fun _ => False) hp := fun _ _ _ z => absurd z (fun y => y)
  refine ⟨fun w hw => ?_, fun w hw i hi => ⟨(q2 w hw i hi).1.x hx (fun z => z), (q2 w hw i hi).2.k hx hW⟩, q3, fun i hi => (q4 i hi).x hx (fun z => z), q5, fun b hb s hs => (q6 b hb s hs).k hx hW, q7, q8⟩
  obtain ⟨a1, a2, a3, a4⟩ := q1 w hw
  exact ⟨a1, a2, a3.elim Or.inl (fun z => Or.inr ⟨z.1.x hx (fun y => y), z.2⟩), a4⟩
theorem ED.k {ρ : Rho} {fr : Nat → Option va_E} {A : Nat → Nat} {D : Dn} {hp h : Hp} (q : ED ρ fr A D hp) (hx : xt (fun _ => False) hp h) : ED ρ fr A D h := ⟨q.1.k hx, q.2.k hx (fun _ _ _ z => absurd z (fun y => y))⟩
