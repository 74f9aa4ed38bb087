/-! THE COMPONENT's WORLD: its own cells (region rgM: 31 places), the regiment in force (rho), anything else (E) -/
set_option maxRecDepth 100000
def tabM : List (Nat × Nat × Nat) := [(0, 1, 22), (0, 3, 9), (1, 0, 6), (1, 0, 6), (1, 0, 6), (1, 0, 6), (1, 0, 6), (1, 0, 6), (0, 3, 9), (1, 0, 6), (1, 0, 6), (1, 0, 6), (1, 0, 6), (1, 0, 6), (1, 0, 6), (1, 2, 1600), (0, 4, 8), (0, 16, 3), (0, 16, 3), (1, 0, 6), (1, 0, 6), (0, 5, 4), (0, 6, 3), (1, 0, 64), (0, 16, 3), (1, 1, 651), (2, 5, 3), (0, 7, 1), (0, 7, 1), (0, 7, 1), (1, 0, 6)]
def kdM : List (List (Nat × Nat)) := [[(2, 0), (1, 1), (1, 8), (1, 15), (1, 16), (0, 0), (0, 0), (0, 0), (0, 0), (1, 17), (1, 18), (1, 19), (1, 20), (0, 0), (0, 0), (0, 0), (1, 21), (1, 22), (1, 23), (1, 24), (1, 25), (1, 26)],
  [(1, 2), (1, 3), (1, 4), (1, 5), (1, 6), (1, 7), (0, 0), (0, 0), (0, 0)], [], [], [], [], [], [],
  [(1, 9), (1, 10), (1, 11), (1, 12), (1, 13), (1, 14), (0, 0), (0, 0), (0, 0)], [], [], [], [], [], [], [],
  [(2, 0), (2, 0), (2, 0), (2, 0), (2, 0), (0, 0), (0, 0), (0, 0)], [(0, 0), (2, 0), (0, 0)], [(0, 0), (2, 0), (0, 0)], [], [],
  [(0, 0), (1, 0), (0, 0), (1, 0)], [(0, 0), (1, 0), (1, 0)], [], [(0, 0), (2, 0), (0, 0)], [], [(1, 27), (1, 28), (1, 29)], [(2, 0)], [(2, 0)], [(2, 0)], []]
def rgM : Rg := (fun o => tabM.getD o (1, 0, 0), fun o j => (kdM.getD o []).getD j (0, 0), 31)
/-- the regiment in force: numbers (0 men, 1 coats, 2 its address, 3 men's list, 4 its row, 5 coats' list, 6 its row, 7 8 the rows' lengths); addresses (0 m: a man, 1 c: a coat); numbers (0 m f: a man's field f, 1 c f: a coat's, 2 0 f: the regiment's, 3 0 0 and 3 1 0: the lists' modCount); names; its formula (address, height, steps); the lists' rows -/
abbrev Rho : Type := (Nat → Nat) × (Nat → Nat → Nat) × (Nat → Nat → Nat → Int32) × (Nat → Nat → Int64) × Option (Nat × Nat × List (Int32 × Int32)) × (Nat → Nat → Option Nat)
abbrev rgI (ρ : Rho) (j : Nat) : Int32 := ρ.2.2.1 2 0 j
abbrev mnI (ρ : Rho) (m j : Nat) : Int32 := ρ.2.2.1 0 m j
abbrev ctI (ρ : Rho) (c j : Nat) : Int32 := ρ.2.2.1 1 c j
abbrev rIll (ρ : Rho) : Option (Nat × Nat × List (Int32 × Int32)) := ρ.2.2.2.2.1
def illV (ρ : Rho) : Value := match rIll ρ with
  | none => .null
  | some q => .ref q.1
/-- outside the region, the cell a holds e -/
def atC (A : Nat → Nat) (hp : Hp) (a : Nat) (e : va_E) : Prop := K0 ≤ a ∧ a < hp.2 ∧ outA rgM A a ∧ hp.1 a = e
/-- a part of a formula, of at most that height: its steps, the last one last -/
def PartAt (A : Nat → Nat) (hp : Hp) : Nat → Nat → List (Int32 × Int32) → Prop
  | 0, _, _ => False
  | n + 1, p, L => (∃ v, atC A hp p (.inr (12, [.int v])) ∧ L = [(0, v)]) ∨ (∃ w, w < 6 ∧ atC A hp p (.inr (13, [.int (nI w)])) ∧ L = [(1, nI w)]) ∨
    (∃ a L1, atC A hp p (.inr (11, [.ref a])) ∧ PartAt A hp n a L1 ∧ L = L1 ++ [(2, 0)]) ∨
    (∃ s a b L1 L2, atC A hp p (.inr (14, [.int s, .ref a, .ref b])) ∧ PartAt A hp n a L1 ∧ PartAt A hp n b L2 ∧ L = L1 ++ L2 ++ [(3, s)])
def regC (A : Nat → Nat) (ρ : Rho) : List Value := [.ref (ρ.1 3), .ref (ρ.1 5), illV ρ, .int (rgI ρ 3), .int (rgI ρ 4), .int (rgI ρ 5), .int (rgI ρ 6), .int (rgI ρ 7), .int (rgI ρ 8), .int (rgI ρ 9), .int (rgI ρ 10), .int (rgI ρ 11), .int (rgI ρ 12), .int (rgI ρ 13), .ref (A 30)]
def RegOK (ρ : Rho) (A : Nat → Nat) (hp : Hp) : Prop :=
  atC A hp (ρ.1 2) (.inr (2, regC A ρ)) ∧
  (∀ w, w < 2 → atC A hp (ρ.1 (3 + 2 * w)) (.inr (16, [.int (ρ.2.2.1 3 w 0), .ref (ρ.1 (4 + 2 * w)), .int (nI (ρ.1 w))])) ∧ ρ.1 w ≤ 6 ∧ (0 < ρ.1 w → atC A hp (ρ.1 (4 + 2 * w)) (.inl (4, ρ.1 (7 + w), .inr (.inr (.inr (.inr (ρ.2.2.2.2.2 w)))))) ∧ ρ.1 w ≤ ρ.1 (7 + w) ∧ ρ.1 (7 + w) ≤ 1000) ∧ ∀ m, m < ρ.1 w → ρ.2.2.2.2.2 w m = some (ρ.2.1 w m)) ∧
  (∀ m, m < ρ.1 0 → atC A hp (ρ.2.1 0 m) (.inr (9, [.long (ρ.2.2.2.1 0 m), .int (mnI ρ m 1), .int (mnI ρ m 2), .int (mnI ρ m 3)]))) ∧
  (∀ m, m < ρ.1 1 → atC A hp (ρ.2.1 1 m) (.inr (10, [.long (ρ.2.2.2.1 1 m), .int (ctI ρ m 1), .int (ctI ρ m 2), .int (ctI ρ m 3), .int (ctI ρ m 4)]))) ∧
  (∀ q, rIll ρ = some q → PartAt A hp q.2.1 q.1 q.2.2 ∧ q.2.1 ≤ 200)
def Bs (ρ : Rho) (E : Hp → Prop) (A : Nat → Nat) (hp : Hp) : Prop := okA rgM A hp ∧ RegOK ρ A hp ∧ E hp
def PV (ρ : Rho) (E : Hp → Prop) (A : Nat → Nat) (r : Option Value) (σ1 : Sg) : Option Value → Hp → Prop := fun v hp1 => v = r ∧ ∃ hp', Bs ρ E A hp' ∧ hp1 = ov rgM A σ1 hp'
def Rv (ρ : Rho) (E : Hp → Prop) (A : Nat → Nat) (M : MD) (d c k pc : Nat) (ls st : List Value) (σ : Sg) (r : Option Value) (σ1 : Sg) : Prop := ∀ (G : Wd) (l : Launch) (hp : Hp), Bs ρ E A hp → σ.2.2 0 0 = .ref (ρ.1 2) → RnH [] G l M d (PV ρ E A r σ1) noX pc ls st (ov rgM A σ hp) c k
def Tv (ρ : Rho) (E : Hp → Prop) (A : Nat → Nat) (M : MD) (d c k : Nat) (as : List Value) (σ : Sg) (r : Option Value) (σ1 : Sg) : Prop := σ1.2 = σ.2 ∧ ∀ (G : Wd) (l : Launch) (hp : Hp), Bs ρ E A hp → σ.2.2 0 0 = .ref (ρ.1 2) → Ev G l M d c k as (ov rgM A σ hp) (PV ρ E A r σ1)
/-- what lies outside may change: E, then E1 -/
def Rw (ρ : Rho) (E E1 : Hp → Prop) (A : Nat → Nat) (M : MD) (d c k pc : Nat) (ls st : List Value) (σ : Sg) (r : Option Value) (σ1 : Sg) : Prop := ∀ (G : Wd) (l : Launch) (hp : Hp), Bs ρ E A hp → σ.2.2 0 0 = .ref (ρ.1 2) → RnH [] G l M d (PV ρ E1 A r σ1) noX pc ls st (ov rgM A σ hp) c k
def Tw (ρ : Rho) (E E1 : Hp → Prop) (A : Nat → Nat) (M : MD) (d c k : Nat) (as : List Value) (σ : Sg) (r : Option Value) (σ1 : Sg) : Prop := σ1.2.2 0 0 = .ref (ρ.1 2) ∧ ∀ (G : Wd) (l : Launch) (hp : Hp), Bs ρ E A hp → σ.2.2 0 0 = .ref (ρ.1 2) → Ev G l M d c k as (ov rgM A σ hp) (PV ρ E1 A r σ1)
theorem Tw.of {ρ : Rho} {E E1 : Hp → Prop} {A : Nat → Nat} {M : MD} {d c k : Nat} {as : List Value} {σ σ1 : Sg} {r : Option Value} (ls : List Value) (hy : plainName M.1.cls = true) (hls : eL as M.2.2.1 = ls) (hn : ∀ (G : Wd), (lg_sl (as.map (cv G))).length ≤ M.2.2.1) (h2 : σ1.2.2 0 0 = .ref (ρ.1 2)) (h : Rw ρ E E1 A M d c k 0 ls [] σ r σ1) : Tw ρ E E1 A M d c k as σ r σ1 := by
  refine ⟨h2, fun G l hp hB hR => ?_⟩
  refine Ev.of hy (hn G) ?_
  rw [hls]
  exact h G l hp hB hR
theorem Tv.of {ρ : Rho} {E : Hp → Prop} {A : Nat → Nat} {M : MD} {d c k : Nat} {as : List Value} {σ σ1 : Sg} {r : Option Value} (ls : List Value) (hy : plainName M.1.cls = true) (hls : eL as M.2.2.1 = ls) (hn : ∀ (G : Wd), (lg_sl (as.map (cv G))).length ≤ M.2.2.1) (h2 : σ1.2 = σ.2) (h : Rv ρ E A M d c k 0 ls [] σ r σ1) : Tv ρ E A M d c k as σ r σ1 := by
  refine ⟨h2, fun G l hp hB hR => ?_⟩
  refine Ev.of hy (hn G) ?_
  rw [hls]
  exact h G l hp hB hR
section Main
variable {hh : List (Nat × Nat × Nat × Nat)} {G : Wd} {l : Launch} {M : MD} {d : Nat} {P : Option Value → Hp → Prop} {X : Nat → Hp → Prop} {pc : Nat} {ls st : List Value} {hp : Hp} {c k : Nat} {A : Nat → Nat} {σ : Sg} {ρ : Rho} {E : Hp → Prop}
theorem ov_obj {R : Rg} {o ci nf : Nat} (hA : okA R A hp) (ho : o < R.2.2 ∧ R.1 o = (0, ci, nf)) : ∃ fs, (ov R A σ hp).1 (A o) = .inr (ci, fs) := by
  have e := ov_at (σ := σ) hA ho.1
  unfold ceR at e
  rw [ho.2] at e
  exact ⟨_, e⟩
theorem V_call {index n o ci nf c1 k1 : Nat} {N : MD} {r : Option Value} {σ1 : Sg} {rest : List Value} (As : List Value) (hB : Bs ρ E A hp) (hR : σ.2.2 0 0 = .ref (ρ.1 2)) (hd : decode M.2.1 pc = .ok (.invokevirtual index, 3)) (hc : CV M.1.cls index N n) (hst : st = As.reverse ++ .ref (A o) :: rest) (hn : As.length = n) (hw : (rest.map Value.category).sum ≤ 8) (ho : o < rgM.2.2 ∧ rgM.1 o = (0, ci, nf)) (hcl : (clA[ci]?).map (fun q => q.1) = some N.1.cls) (hev : Tv ρ E A N d c1 k1 (.ref (A o) :: As) σ r σ1) (hcc : c1 ≤ c) (hkk : k1 ≤ k)
    (kk : ∀ hp, Bs ρ E A hp → RnH hh G l M (d + 1) P X (pc + 3) ls (r.toList ++ rest) (ov rgM A σ1 hp) (c - c1) (k - k1)) : RnH hh G l M (d + 1) P X pc ls st (ov rgM A σ hp) c k := by
  obtain ⟨fs, hfs⟩ := ov_obj (σ := σ) hB.1 ho
  refine R_callV hd hc hst hn hw (hB.1.1 o ho.1).2 hfs hcl (hev.2 G l hp hB hR) hcc hkk (fun v hp1 hq => ?_)
  obtain ⟨rfl, hp', hB', rfl⟩ := hq
  exact kk hp' hB'
theorem V_callW {index n o ci nf c1 k1 : Nat} {N : MD} {r : Option Value} {σ1 : Sg} {E1 : Hp → Prop} {rest : List Value} (As : List Value) (hB : Bs ρ E A hp) (hR : σ.2.2 0 0 = .ref (ρ.1 2)) (hd : decode M.2.1 pc = .ok (.invokevirtual index, 3)) (hc : CV M.1.cls index N n) (hst : st = As.reverse ++ .ref (A o) :: rest) (hn : As.length = n) (hw : (rest.map Value.category).sum ≤ 8) (ho : o < rgM.2.2 ∧ rgM.1 o = (0, ci, nf)) (hcl : (clA[ci]?).map (fun q => q.1) = some N.1.cls) (hev : Tw ρ E E1 A N d c1 k1 (.ref (A o) :: As) σ r σ1) (hcc : c1 ≤ c) (hkk : k1 ≤ k)
    (kk : ∀ hp, Bs ρ E1 A hp → RnH hh G l M (d + 1) P X (pc + 3) ls (r.toList ++ rest) (ov rgM A σ1 hp) (c - c1) (k - k1)) : RnH hh G l M (d + 1) P X pc ls st (ov rgM A σ hp) c k := by
  obtain ⟨fs, hfs⟩ := ov_obj (σ := σ) hB.1 ho
  refine R_callV hd hc hst hn hw (hB.1.1 o ho.1).2 hfs hcl (hev.2 G l hp hB hR) hcc hkk (fun v hp1 hq => ?_)
  obtain ⟨rfl, hp', hB', rfl⟩ := hq
  exact kk hp' hB'
theorem V_callN {index n o ci nf c1 k1 : Nat} {N : MD} {r : Option Value} {σ1 : Sg} {rest : List Value} (As : List Value) (hB : Bs ρ E A hp) (hR : σ.2.2 0 0 = .ref (ρ.1 2)) (hd : decode M.2.1 pc = .ok (.invokevirtual index, 3)) (hc : CVN M.1.cls index N n) (hst : st = As.reverse ++ .ref (A o) :: rest) (hn : As.length = n) (hw : (rest.map Value.category).sum ≤ 8) (ho : o < rgM.2.2 ∧ rgM.1 o = (0, ci, nf)) (hcl : (clA[ci]?).map (fun q => q.1) = some N.1.cls) (hev : Tv ρ E A N d c1 k1 (.ref (A o) :: As) σ r σ1) (hcc : c1 ≤ c) (hkk : k1 ≤ k)
    (kk : ∀ hp, Bs ρ E A hp → RnH hh G l M (d + 1) P X (pc + 3) ls (r.toList ++ rest) (ov rgM A σ1 hp) (c - c1) (k - k1)) : RnH hh G l M (d + 1) P X pc ls st (ov rgM A σ hp) c k := by
  obtain ⟨fs, hfs⟩ := ov_obj (σ := σ) hB.1 ho
  refine R_callVN hd hc hst hn hw (hB.1.1 o ho.1).2 hfs hcl (hev.2 G l hp hB hR) hcc hkk (fun v hp1 hq => ?_)
  obtain ⟨rfl, hp', hB', rfl⟩ := hq
  exact kk hp' hB'
theorem V_callU {index n o ci nf c1 k1 : Nat} {C9 : String} {x : MethodName} {N : MD} {r : Option Value} {σ1 : Sg} {rest : List Value} (As : List Value) (hB : Bs ρ E A hp) (hR : σ.2.2 0 0 = .ref (ρ.1 2)) (hd : decode M.2.1 pc = .ok (.invokevirtual index, 3)) (hc : CU M.1.cls index C9 x N n) (hst : st = As.reverse ++ .ref (A o) :: rest) (hn : As.length = n) (hw : (rest.map Value.category).sum ≤ 8) (ho : o < rgM.2.2 ∧ rgM.1 o = (0, ci, nf)) (hcl : (clA[ci]?).map (fun q => q.1) = some C9) (hev : Tv ρ E A N d c1 k1 (.ref (A o) :: As) σ r σ1) (hcc : c1 ≤ c) (hkk : k1 ≤ k)
    (kk : ∀ hp, Bs ρ E A hp → RnH hh G l M (d + 1) P X (pc + 3) ls (r.toList ++ rest) (ov rgM A σ1 hp) (c - c1) (k - k1)) : RnH hh G l M (d + 1) P X pc ls st (ov rgM A σ hp) c k := by
  obtain ⟨fs, hfs⟩ := ov_obj (σ := σ) hB.1 ho
  refine R_callU hd hc hst hn hw (hB.1.1 o ho.1).2 hfs hcl (hev.2 G l hp hB hR) hcc hkk (fun v hp1 hq => ?_)
  obtain ⟨rfl, hp', hB', rfl⟩ := hq
  exact kk hp' hB'
/-- a call of the regiment in force -/
theorem V_callR {index n c1 k1 : Nat} {N : MD} {r : Option Value} {σ1 : Sg} {rest : List Value} (As : List Value) (hB : Bs ρ E A hp) (hR : σ.2.2 0 0 = .ref (ρ.1 2)) (hd : decode M.2.1 pc = .ok (.invokevirtual index, 3)) (hc : CV M.1.cls index N n) (hst : st = As.reverse ++ .ref (ρ.1 2) :: rest) (hn : As.length = n) (hw : (rest.map Value.category).sum ≤ 8) (hcl : RX1 = N.1.cls) (hev : Tv ρ E A N d c1 k1 (.ref (ρ.1 2) :: As) σ r σ1) (hcc : c1 ≤ c) (hkk : k1 ≤ k)
    (kk : ∀ hp, Bs ρ E A hp → RnH hh G l M (d + 1) P X (pc + 3) ls (r.toList ++ rest) (ov rgM A σ1 hp) (c - c1) (k - k1)) : RnH hh G l M (d + 1) P X pc ls st (ov rgM A σ hp) c k := by
  obtain ⟨q1, q2, q3, q4⟩ := hB.2.1.1
  refine R_callV hd hc hst hn hw q2 (by rw [ov_out q3]; exact q4) (by rw [← hcl]; rfl) (hev.2 G l hp hB hR) hcc hkk (fun v hp1 hq => ?_)
  obtain ⟨rfl, hp', hB', rfl⟩ := hq
  exact kk hp' hB'
theorem V_callS {index n : Nat} {N : MD} {r : Option Value} {rest : List Value} (As : List Value) (hd : decode M.2.1 pc = .ok (.invokestatic index, 3)) (hc : CS M.1.cls index N n) (hst : st = As.reverse ++ rest) (hn : As.length = n) (hw : (rest.map Value.category).sum ≤ 8) (hev : St8 N d As r)
    (kk : RnH hh G l M (d + 1) P X (pc + 3) ls (r.toList ++ rest) hp c k) : RnH hh G l M (d + 1) P X pc ls st hp c k := T8_callS As hd hc hst hn hw hev kk
theorem V_callSN {index n : Nat} {N : MD} {r : Option Value} {rest : List Value} (As : List Value) (hd : decode M.2.1 pc = .ok (.invokestatic index, 3)) (hc : CSN M.1.cls index N n) (hst : st = As.reverse ++ rest) (hn : As.length = n) (hw : (rest.map Value.category).sum ≤ 8) (hev : St8 N d As r)
    (kk : RnH hh G l M (d + 1) P X (pc + 3) ls (r.toList ++ rest) hp c k) : RnH hh G l M (d + 1) P X pc ls st hp c k := by
  refine R_callSN hd hc hst hn hw (hev G l hp) (Nat.zero_le _) (Nat.zero_le _) (fun v hp1 hq => ?_)
  obtain ⟨rfl, rfl⟩ := hq
  exact kk
/-- a field of the regiment in force -/
theorem V_rget {index fk : Nat} {v : Value} (hB : Bs ρ E A hp) (hd : decode M.2.1 pc = .ok (.getfield index, 3)) (hf : Fm M.1.cls index 2 fk) (hv : (regC A ρ)[fk]? = some v) (kk : RnH hh G l M d P X (pc + 3) ls (v :: st) (ov rgM A σ hp) c k) : RnH hh G l M d P X pc ls (.ref (ρ.1 2) :: st) (ov rgM A σ hp) c k := by
  obtain ⟨q1, q2, q3, q4⟩ := hB.2.1.1
  exact R_getM hd hf q2 (by rw [ov_out q3]; exact q4) hv kk
theorem V_mget {index fk : Nat} {i x : Int32} (hB : Bs ρ E A hp) (hi : vp_in i (ρ.1 0)) (hd : decode M.2.1 pc = .ok (.getfield index, 3)) (hf : Fm M.1.cls index 9 fk) (hk : 1 ≤ fk ∧ fk < 4) (hx : mnI ρ i.toNatClampNeg fk = x) (kk : RnH hh G l M d P X (pc + 3) ls (.int x :: st) (ov rgM A σ hp) c k) : RnH hh G l M d P X pc ls (.ref (ρ.2.1 0 i.toNatClampNeg) :: st) (ov rgM A σ hp) c k := by
  obtain ⟨q1, q2, q3, q4⟩ := hB.2.1.2.2.1 i.toNatClampNeg (Nat.not_le.mp fun q => hi (Or.inr q))
  subst hx
  refine R_getM hd hf q2 (by rw [ov_out q3]; exact q4) ?_ kk
  match fk, hk with
  | 1, _ => rfl
  | 2, _ => rfl
  | 3, _ => rfl
theorem V_cget {index fk : Nat} {i x : Int32} (hB : Bs ρ E A hp) (hi : vp_in i (ρ.1 1)) (hd : decode M.2.1 pc = .ok (.getfield index, 3)) (hf : Fm M.1.cls index 10 fk) (hk : 1 ≤ fk ∧ fk < 5) (hx : ctI ρ i.toNatClampNeg fk = x) (kk : RnH hh G l M d P X (pc + 3) ls (.int x :: st) (ov rgM A σ hp) c k) : RnH hh G l M d P X pc ls (.ref (ρ.2.1 1 i.toNatClampNeg) :: st) (ov rgM A σ hp) c k := by
  obtain ⟨q1, q2, q3, q4⟩ := hB.2.1.2.2.2.1 i.toNatClampNeg (Nat.not_le.mp fun q => hi (Or.inr q))
  subst hx
  refine R_getM hd hf q2 (by rw [ov_out q3]; exact q4) ?_ kk
  match fk, hk with
  | 1, _ => rfl
  | 2, _ => rfl
  | 3, _ => rfl
  | 4, _ => rfl
theorem V_mcast {index : Nat} {i : Int32} (hB : Bs ρ E A hp) (hi : vp_in i (ρ.1 0)) (hd : decode M.2.1 pc = .ok (.checkcast index, 3)) (hq : Cond.classLink M.1.cls index "TailorRegiment$Man" ∈ lw_all) (kk : RnH hh G l M d P X (pc + 3) ls (.ref (ρ.2.1 0 i.toNatClampNeg) :: st) (ov rgM A σ hp) c k) : RnH hh G l M d P X pc ls (.ref (ρ.2.1 0 i.toNatClampNeg) :: st) (ov rgM A σ hp) c k := by
  obtain ⟨q1, q2, q3, q4⟩ := hB.2.1.2.2.1 i.toNatClampNeg (Nat.not_le.mp fun q => hi (Or.inr q))
  exact R_cast hd rfl hq (Or.inl rfl) q2 (by rw [ov_out q3]; exact q4) kk
theorem V_ccast {index : Nat} {i : Int32} (hB : Bs ρ E A hp) (hi : vp_in i (ρ.1 1)) (hd : decode M.2.1 pc = .ok (.checkcast index, 3)) (hq : Cond.classLink M.1.cls index "TailorRegiment$Coat" ∈ lw_all) (kk : RnH hh G l M d P X (pc + 3) ls (.ref (ρ.2.1 1 i.toNatClampNeg) :: st) (ov rgM A σ hp) c k) : RnH hh G l M d P X pc ls (.ref (ρ.2.1 1 i.toNatClampNeg) :: st) (ov rgM A σ hp) c k := by
  obtain ⟨q1, q2, q3, q4⟩ := hB.2.1.2.2.2.1 i.toNatClampNeg (Nat.not_le.mp fun q => hi (Or.inr q))
  exact R_cast hd rfl hq (Or.inl rfl) q2 (by rw [ov_out q3]; exact q4) kk
theorem S_astore_n {q : Fin 4} {x : Nat} {ls1 : List Value} (hd : decode M.2.1 pc = .ok (.astore_n q, 1)) (hn : (q : Nat) < M.2.2.1) (ho : okS ls (q : Nat) = true) (h1 : ls.set (q : Nat) (.ref x) = ls1) (kk : RnH hh G l M d P X (pc + 1) ls1 st hp c k) : RnH hh G l M d P X pc ls (.ref x :: st) hp c k := by
  subst h1; exact R_astore_n hd hn ho kk
theorem S_astore {i x : Nat} {ls1 : List Value} (hd : decode M.2.1 pc = .ok (.astore i, 2)) (hn : i < M.2.2.1) (ho : okS ls i = true) (h1 : ls.set i (.ref x) = ls1) (kk : RnH hh G l M d P X (pc + 2) ls1 st hp c k) : RnH hh G l M d P X pc ls (.ref x :: st) hp c k := by
  subst h1; exact R_astore hd hn ho kk
theorem S_lstore {i : Nat} {x : Int64} {ls1 : List Value} (hd : decode M.2.1 pc = .ok (.lstore i, 2)) (hn : i + 1 < M.2.2.1) (ho : okS ls i = true) (h1 : (ls.set i (.long x)).set (i + 1) U_ = ls1) (kk : RnH hh G l M d P X (pc + 2) ls1 st hp c k) : RnH hh G l M d P X pc ls (.long x :: st) hp c k := by
  subst h1; exact R_lstore hd hn ho kk
end Main
theorem up8c (f : Nat → Nat → Int32) (j : Nat) (g1 g2 : Nat → Int32) (w : (Nat → Nat → Int64) × (Nat → Nat → Value)) : ((upA (upA f j g1) j g2, w) : Sg) = (upA f j g2, w) := by rw [upA_upA]
