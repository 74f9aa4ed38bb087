/-! REGIONS: a row of cells of known shape, at addresses A; their contents are numbers, longs, references by place and field -/
set_option maxRecDepth 100000
abbrev Sg : Type := (Nat → Nat → Int32) × (Nat → Nat → Int64) × (Nat → Nat → Value)
/-- a region's shape: by place (sort, class or tag, length), sorts: 0 object, 1 row of numbers, 2 row of fixed references; by place and field: (0, _) number, (5, _) long, (1, q) the cell at place q, (2, _) any reference; how many places -/
abbrev Rg : Type := (Nat → Nat × Nat × Nat) × (Nat → Nat → Nat × Nat) × Nat
def fvR (R : Rg) (A : Nat → Nat) (σ : Sg) (o j : Nat) : Value := match R.2.1 o j with
  | (0, _) => .int (σ.1 o j)
  | (5, _) => .long (σ.2.1 o j)
  | (1, q) => .ref (A q)
  | _ => σ.2.2 o j
def ceR (R : Rg) (A : Nat → Nat) (σ : Sg) (o : Nat) : va_E := match R.1 o with
  | (0, ci, n) => .inr (ci, (List.range n).map (fvR R A σ o))
  | (1, t, n) => .inl (t, n, .inl (σ.1 o))
  | (_, t, n) => .inl (t, n, .inr (.inr (.inr (.inr (fun j => some (A (R.2.1 o j).2))))))
def plR (A : Nat → Nat) (i : Nat) : Nat → Option Nat
  | 0 => none
  | n + 1 => if A n = i then some n else plR A i n
def ov (R : Rg) (A : Nat → Nat) (σ : Sg) (hp : Hp) : Hp := (fun i => match plR A i R.2.2 with
  | some o => ceR R A σ o
  | none => hp.1 i, hp.2)
def okA (R : Rg) (A : Nat → Nat) (hp : Hp) : Prop := (∀ o, o < R.2.2 → K0 ≤ A o ∧ A o < hp.2) ∧ ∀ o q, o < R.2.2 → q < R.2.2 → A o = A q → o = q
/-- the address a lies outside -/
def outA (R : Rg) (A : Nat → Nat) (a : Nat) : Prop := ∀ o, o < R.2.2 → A o ≠ a
section Reg
variable {R : Rg} {A : Nat → Nat} {σ : Sg} {hp : Hp}
theorem plR_none {i : Nat} : ∀ {n : Nat}, (∀ o, o < n → A o ≠ i) → plR A i n = none := by
  intro n
  induction n with
  | zero => intro _; rfl
  | succ n ih =>
    intro h
    show (if A n = i then some n else plR A i n) = none
    rw [if_neg (h n (by omega))]
    exact ih (fun o ho => h o (by omega))
theorem plR_some {o : Nat} : ∀ {n : Nat}, o < n → (∀ q, q < n → A o = A q → o = q) → plR A (A o) n = some o := by
  intro n
  induction n with
  | zero => intro h _; omega
  | succ n ih =>
    intro h hi
    show (if A n = A o then some n else plR A (A o) n) = some o
    by_cases e : A n = A o
    · rw [if_pos e, hi n (by omega) e.symm]
    · rw [if_neg e]
      have : o ≠ n := fun z => e (by rw [z])
      exact ih (by omega) (fun q hq => hi q (by omega))
theorem plR_inv {i o : Nat} : ∀ {n : Nat}, plR A i n = some o → o < n ∧ A o = i := by
  intro n
  induction n with
  | zero => intro h; cases h
  | succ n ih =>
    intro h
    have h' : (if A n = i then some n else plR A i n) = some o := h
    by_cases e : A n = i
    · rw [if_pos e] at h'
      cases h'
      exact ⟨by omega, e⟩
    · rw [if_neg e] at h'
      exact ⟨by have := (ih h').1; omega, (ih h').2⟩
theorem ov_at (hA : okA R A hp) {o : Nat} (ho : o < R.2.2) : (ov R A σ hp).1 (A o) = ceR R A σ o := by
  show (match plR A (A o) R.2.2 with | some o => ceR R A σ o | none => hp.1 (A o)) = _
  rw [plR_some ho (fun q hq e => hA.2 o q ho hq e)]
theorem ov_out {a : Nat} (h : outA R A a) : (ov R A σ hp).1 a = hp.1 a := by
  show (match plR A a R.2.2 with | some o => ceR R A σ o | none => hp.1 a) = _
  rw [plR_none h]
theorem ov_set {σ' : Sg} (hA : okA R A hp) {o : Nat} {e : va_E} (ho : o < R.2.2) (he : ceR R A σ' o = e) (hq : ∀ q, q < R.2.2 → q ≠ o → ceR R A σ' q = ceR R A σ q) : hset (ov R A σ hp) (A o) e = ov R A σ' hp := by
  apply Prod.ext
  · funext i
    show (if i = A o then e else (ov R A σ hp).1 i) = (ov R A σ' hp).1 i
    by_cases e1 : i = A o
    · subst e1
      rw [if_pos rfl, ov_at hA ho, he]
    · rw [if_neg e1]
      show (match plR A i R.2.2 with | some o => ceR R A σ o | none => hp.1 i) = (match plR A i R.2.2 with | some o => ceR R A σ' o | none => hp.1 i)
      cases h : plR A i R.2.2 with
      | none => rfl
      | some q =>
        obtain ⟨h1, h2⟩ := plR_inv h
        show ceR R A σ q = ceR R A σ' q
        rw [hq q h1 (fun z => e1 (by rw [← h2, z]))]
  · rfl
theorem ov_base {a : Nat} {e : va_E} (h : outA R A a) : hset (ov R A σ hp) a e = ov R A σ (hset hp a e) := by
  apply Prod.ext
  · funext i
    show (if i = a then e else (match plR A i R.2.2 with | some o => ceR R A σ o | none => hp.1 i)) = (match plR A i R.2.2 with | some o => ceR R A σ o | none => if i = a then e else hp.1 i)
    by_cases e1 : i = a
    · subst e1
      rw [if_pos rfl, plR_none h, if_pos rfl]
    · rw [if_neg e1, if_neg e1]
  · rfl
theorem ov_new {e : va_E} (hA : okA R A hp) : hnew (ov R A σ hp) e = ov R A σ (hnew hp e) := by
  apply Prod.ext
  · funext i
    show (if i = hp.2 then e else (match plR A i R.2.2 with | some o => ceR R A σ o | none => hp.1 i)) = (match plR A i R.2.2 with | some o => ceR R A σ o | none => if i = hp.2 then e else hp.1 i)
    by_cases e1 : i = hp.2
    · subst e1
      rw [if_pos rfl, plR_none (fun o ho z => by have := (hA.1 o ho).2; omega), if_pos rfl]
    · rw [if_neg e1, if_neg e1]
  · rfl
theorem ov_id (h : ∀ o, o < R.2.2 → hp.1 (A o) = ceR R A σ o) : ov R A σ hp = hp := by
  apply Prod.ext
  · funext i
    show (match plR A i R.2.2 with | some o => ceR R A σ o | none => hp.1 i) = hp.1 i
    cases h1 : plR A i R.2.2 with
    | none => rfl
    | some q =>
      obtain ⟨h2, h3⟩ := plR_inv h1
      rw [← h3, h q h2]
  · rfl
theorem okA.new {e : va_E} (hA : okA R A hp) : okA R A (hnew hp e) := ⟨fun o ho => ⟨(hA.1 o ho).1, by have := (hA.1 o ho).2; show A o < hp.2 + 1; omega⟩, hA.2⟩
theorem fs_at {n o j : Nat} (hj : j < n) : ((List.range n).map (fvR R A σ o))[j]? = some (fvR R A σ o j) := by
  rw [List.getElem?_map, List.getElem?_range hj]
  rfl
theorem fs_set {σ' : Sg} {n o fk : Nat} {v : Value} (h : ∀ j, j < n → fvR R A σ' o j = if j = fk then v else fvR R A σ o j) : ((List.range n).map (fvR R A σ o)).set fk v = (List.range n).map (fvR R A σ' o) := by
  apply List.ext_getElem?
  intro j
  by_cases hj : j < n
  · rw [fs_at hj, h j hj]
    by_cases e : j = fk
    · subst e
      rw [List.getElem?_set_self (by simpa using hj), if_pos rfl]
    · rw [List.getElem?_set_ne (Ne.symm e), fs_at hj, if_neg e]
  · rw [List.getElem?_eq_none (by simp; omega), List.getElem?_eq_none (by simp; omega)]
theorem fvR_n {σ' : Sg} {o j : Nat} (h1 : σ'.1 o j = σ.1 o j) (h2 : σ'.2.1 o j = σ.2.1 o j) (h3 : σ'.2.2 o j = σ.2.2 o j) : fvR R A σ' o j = fvR R A σ o j := by
  unfold fvR
  rw [h1, h2, h3]
/-! the three kinds of change -/
def upI (σ : Sg) (o j : Nat) (x : Int32) : Sg := (upA σ.1 o (upd (σ.1 o) j x), σ.2)
def upR (σ : Sg) (o j : Nat) (v : Value) : Sg := (σ.1, σ.2.1, fun q i => if q = o ∧ i = j then v else σ.2.2 q i)
def upL (σ : Sg) (o j : Nat) (x : Int64) : Sg := (σ.1, fun q i => if q = o ∧ i = j then x else σ.2.1 q i, σ.2.2)
theorem ceR_n {σ' : Sg} {q : Nat} (h1 : σ'.1 q = σ.1 q) (h2 : ∀ j, σ'.2.1 q j = σ.2.1 q j) (h3 : ∀ j, σ'.2.2 q j = σ.2.2 q j) : ceR R A σ' q = ceR R A σ q := by
  unfold ceR
  have e : fvR R A σ' q = fvR R A σ q := by
    funext j
    unfold fvR
    rw [h1, h2, h3]
  rw [e, h1]
end Reg
section RegR
variable {hh : List (Nat × Nat × Nat × Nat)} {G : Wd} {l : Launch} {M : MD} {d : Nat} {P : Option Value → Hp → Prop} {X : Nat → Hp → Prop} {pc : Nat} {ls st : List Value} {hp : Hp} {c k : Nat} {R : Rg} {A : Nat → Nat} {σ : Sg}
theorem V_get {index o ci nf fk z : Nat} {x : Int32} (hA : okA R A hp) (hd : decode M.2.1 pc = .ok (.getfield index, 3)) (hf : Fm M.1.cls index ci fk) (ho : o < R.2.2 ∧ fk < nf ∧ R.1 o = (0, ci, nf) ∧ R.2.1 o fk = (0, z)) (hx : σ.1 o fk = x) (kk : RnH hh G l M d P X (pc + 3) ls (.int x :: st) (ov R A σ hp) c k) : RnH hh G l M d P X pc ls (.ref (A o) :: st) (ov R A σ hp) c k := by
  have e := ov_at (σ := σ) hA ho.1
  unfold ceR at e
  rw [ho.2.2.1] at e
  refine R_getM hd hf (hA.1 o ho.1).2 e (v := .int x) ?_ kk
  rw [fs_at ho.2.1]
  unfold fvR
  rw [ho.2.2.2, ← hx]
  rfl
theorem V_getl {index o ci nf fk z : Nat} {x : Int64} (hA : okA R A hp) (hd : decode M.2.1 pc = .ok (.getfield index, 3)) (hf : Fm M.1.cls index ci fk) (ho : o < R.2.2 ∧ fk < nf ∧ R.1 o = (0, ci, nf) ∧ R.2.1 o fk = (5, z)) (hx : σ.2.1 o fk = x) (kk : RnH hh G l M d P X (pc + 3) ls (.long x :: st) (ov R A σ hp) c k) : RnH hh G l M d P X pc ls (.ref (A o) :: st) (ov R A σ hp) c k := by
  have e := ov_at (σ := σ) hA ho.1
  unfold ceR at e
  rw [ho.2.2.1] at e
  refine R_getM hd hf (hA.1 o ho.1).2 e (v := .long x) ?_ kk
  rw [fs_at ho.2.1]
  unfold fvR
  rw [ho.2.2.2, ← hx]
  rfl
theorem V_geta {index o ci nf fk q : Nat} (hA : okA R A hp) (hd : decode M.2.1 pc = .ok (.getfield index, 3)) (hf : Fm M.1.cls index ci fk) (ho : o < R.2.2 ∧ fk < nf ∧ R.1 o = (0, ci, nf) ∧ R.2.1 o fk = (1, q)) (kk : RnH hh G l M d P X (pc + 3) ls (.ref (A q) :: st) (ov R A σ hp) c k) : RnH hh G l M d P X pc ls (.ref (A o) :: st) (ov R A σ hp) c k := by
  have e := ov_at (σ := σ) hA ho.1
  unfold ceR at e
  rw [ho.2.2.1] at e
  refine R_getM hd hf (hA.1 o ho.1).2 e (v := .ref (A q)) ?_ kk
  rw [fs_at ho.2.1]
  unfold fvR
  rw [ho.2.2.2]
  rfl
theorem V_getr {index o ci nf fk z : Nat} {v : Value} (hA : okA R A hp) (hd : decode M.2.1 pc = .ok (.getfield index, 3)) (hf : Fm M.1.cls index ci fk) (ho : o < R.2.2 ∧ fk < nf ∧ R.1 o = (0, ci, nf) ∧ R.2.1 o fk = (2, z)) (hx : σ.2.2 o fk = v) (kk : RnH hh G l M d P X (pc + 3) ls (v :: st) (ov R A σ hp) c k) : RnH hh G l M d P X pc ls (.ref (A o) :: st) (ov R A σ hp) c k := by
  have e := ov_at (σ := σ) hA ho.1
  unfold ceR at e
  rw [ho.2.2.1] at e
  refine R_getM hd hf (hA.1 o ho.1).2 e (v := v) ?_ kk
  rw [fs_at ho.2.1]
  unfold fvR
  rw [ho.2.2.2, ← hx]
  rfl
theorem V_put {index o ci nf fk z : Nat} {x : Int32} {ty : FieldType} {σ9 : Sg} (hA : okA R A hp) (hd : decode M.2.1 pc = .ok (.putfield index, 3)) (hf : Fm M.1.cls index ci fk) (ht : Fu ci fk ty false) (hn : narrow ty (.int x) = .int x) (hfit : fits ty (.int x) = true) (ho : o < R.2.2 ∧ fk < nf ∧ R.1 o = (0, ci, nf) ∧ R.2.1 o fk = (0, z)) (h9 : (upA σ.1 o (upd (σ.1 o) fk x), σ.2) = σ9) (kk : RnH hh G l M d P X (pc + 3) ls st (ov R A σ9 hp) c k) : RnH hh G l M d P X pc ls (.int x :: .ref (A o) :: st) (ov R A σ hp) c k := by
  subst h9
  have e := ov_at (σ := σ) hA ho.1
  unfold ceR at e
  rw [ho.2.2.1] at e
  refine R_putM hd hf ht hn hfit (hA.1 o ho.1).2 (hA.1 o ho.1).1 e (by simpa using ho.2.1) ?_
  rw [ov_set (σ := σ) (σ' := (upA σ.1 o (upd (σ.1 o) fk x), σ.2)) hA ho.1 ?_ (fun q _ hq => ceR_n (upA_n hq) (fun _ => rfl) (fun _ => rfl))]
  · exact kk
  · unfold ceR
    rw [ho.2.2.1]
    show (.inr (ci, (List.range nf).map (fvR R A (upA σ.1 o (upd (σ.1 o) fk x), σ.2) o)) : va_E) = _
    rw [fs_set (σ := σ) (σ' := (upA σ.1 o (upd (σ.1 o) fk x), σ.2)) (fun j _ => ?_)]
    by_cases e2 : j = fk
    · subst e2
      unfold fvR
      rw [if_pos rfl, ho.2.2.2]
      show Value.int (upA σ.1 o (upd (σ.1 o) j x) o j) = _
      rw [upA_s, upd_s]
    · rw [if_neg e2]
      exact fvR_n (by show upA σ.1 o (upd (σ.1 o) fk x) o j = _; rw [upA_s, upd_n e2]) rfl rfl
theorem V_putl {index o ci nf fk z : Nat} {x : Int64} {σ9 : Sg} (hA : okA R A hp) (hd : decode M.2.1 pc = .ok (.putfield index, 3)) (hf : Fm M.1.cls index ci fk) (ht : Fu ci fk .long false) (ho : o < R.2.2 ∧ fk < nf ∧ R.1 o = (0, ci, nf) ∧ R.2.1 o fk = (5, z)) (h9 : upL σ o fk x = σ9) (kk : RnH hh G l M d P X (pc + 3) ls st (ov R A σ9 hp) c k) : RnH hh G l M d P X pc ls (.long x :: .ref (A o) :: st) (ov R A σ hp) c k := by
  subst h9
  have e := ov_at (σ := σ) hA ho.1
  unfold ceR at e
  rw [ho.2.2.1] at e
  refine R_putM hd hf ht rfl rfl (hA.1 o ho.1).2 (hA.1 o ho.1).1 e (by simpa using ho.2.1) ?_
  rw [ov_set (σ := σ) (σ' := upL σ o fk x) hA ho.1 ?_ (fun q _ hq => ceR_n rfl (fun j => by show (if q = o ∧ j = fk then x else σ.2.1 q j) = _; rw [if_neg (fun z => hq z.1)]) (fun _ => rfl))]
  · exact kk
  · unfold ceR
    rw [ho.2.2.1]
    show (.inr (ci, (List.range nf).map (fvR R A (upL σ o fk x) o)) : va_E) = _
    rw [fs_set (σ := σ) (σ' := upL σ o fk x) (fun j _ => ?_)]
    by_cases e2 : j = fk
    · subst e2
      unfold fvR
      rw [if_pos rfl, ho.2.2.2]
      show Value.long (if o = o ∧ j = j then x else σ.2.1 o j) = _
      rw [if_pos ⟨rfl, rfl⟩]
    · rw [if_neg e2]
      exact fvR_n rfl (by show (if o = o ∧ j = fk then x else σ.2.1 o j) = _; rw [if_neg (fun z => e2 z.2)]) rfl
theorem V_putr {index o ci nf fk z : Nat} {v : Value} {ty : FieldType} {σ9 : Sg} (hA : okA R A hp) (hd : decode M.2.1 pc = .ok (.putfield index, 3)) (hf : Fm M.1.cls index ci fk) (ht : Fu ci fk ty false) (hn : narrow ty v = v) (hfit : fits ty v = true) (ho : o < R.2.2 ∧ fk < nf ∧ R.1 o = (0, ci, nf) ∧ R.2.1 o fk = (2, z)) (h9 : upR σ o fk v = σ9) (kk : RnH hh G l M d P X (pc + 3) ls st (ov R A σ9 hp) c k) : RnH hh G l M d P X pc ls (v :: .ref (A o) :: st) (ov R A σ hp) c k := by
  subst h9
  have e := ov_at (σ := σ) hA ho.1
  unfold ceR at e
  rw [ho.2.2.1] at e
  refine R_putM hd hf ht hn hfit (hA.1 o ho.1).2 (hA.1 o ho.1).1 e (by simpa using ho.2.1) ?_
  rw [ov_set (σ := σ) (σ' := upR σ o fk v) hA ho.1 ?_ (fun q _ hq => ceR_n rfl (fun _ => rfl) (fun j => by show (if q = o ∧ j = fk then v else σ.2.2 q j) = _; rw [if_neg (fun z => hq z.1)]))]
  · exact kk
  · unfold ceR
    rw [ho.2.2.1]
    show (.inr (ci, (List.range nf).map (fvR R A (upR σ o fk v) o)) : va_E) = _
    rw [fs_set (σ := σ) (σ' := upR σ o fk v) (fun j _ => ?_)]
    by_cases e2 : j = fk
    · subst e2
      unfold fvR
      rw [if_pos rfl, ho.2.2.2]
      show (if o = o ∧ j = j then v else σ.2.2 o j) = _
      rw [if_pos ⟨rfl, rfl⟩]
    · rw [if_neg e2]
      exact fvR_n rfl rfl (by show (if o = o ∧ j = fk then v else σ.2.2 o j) = _; rw [if_neg (fun z => e2 z.2)])
theorem V_iald {o n : Nat} {i x : Int32} (hA : okA R A hp) (hd : decode M.2.1 pc = .ok (.iaload, 1)) (ho : o < R.2.2 ∧ R.1 o = (1, 0, n)) (hin : vp_in i n) (hx : σ.1 o i.toNatClampNeg = x) (kk : RnH hh G l M d P X (pc + 1) ls (.int x :: st) (ov R A σ hp) c k) : RnH hh G l M d P X pc ls (.int i :: .ref (A o) :: st) (ov R A σ hp) c k := by
  subst hx
  have e := ov_at (σ := σ) hA ho.1
  unfold ceR at e
  rw [ho.2] at e
  exact R_iald hd (hA.1 o ho.1).2 e hin kk
theorem V_zald {o n : Nat} {i x : Int32} (hA : okA R A hp) (hd : decode M.2.1 pc = .ok (.baload, 1)) (ho : o < R.2.2 ∧ R.1 o = (1, 1, n)) (hin : vp_in i n) (hx : σ.1 o i.toNatClampNeg = x) (kk : RnH hh G l M d P X (pc + 1) ls (.int x :: st) (ov R A σ hp) c k) : RnH hh G l M d P X pc ls (.int i :: .ref (A o) :: st) (ov R A σ hp) c k := by
  subst hx
  have e := ov_at (σ := σ) hA ho.1
  unfold ceR at e
  rw [ho.2] at e
  exact R_zald hd (hA.1 o ho.1).2 e hin kk
theorem V_bald {o n : Nat} {i x : Int32} (hA : okA R A hp) (hd : decode M.2.1 pc = .ok (.baload, 1)) (ho : o < R.2.2 ∧ R.1 o = (1, 2, n)) (hin : vp_in i n) (hx : σ.1 o i.toNatClampNeg = x) (kk : RnH hh G l M d P X (pc + 1) ls (.int x :: st) (ov R A σ hp) c k) : RnH hh G l M d P X pc ls (.int i :: .ref (A o) :: st) (ov R A σ hp) c k := by
  subst hx
  have e := ov_at (σ := σ) hA ho.1
  unfold ceR at e
  rw [ho.2] at e
  exact R_bald hd (hA.1 o ho.1).2 e hin kk
theorem ov_row {o t n : Nat} {g : Nat → Int32} (hA : okA R A hp) (ho : o < R.2.2 ∧ R.1 o = (1, t, n)) : hset (ov R A σ hp) (A o) (.inl (t, n, .inl g)) = ov R A (upA σ.1 o g, σ.2) hp := by
  refine ov_set (σ := σ) (σ' := (upA σ.1 o g, σ.2)) hA ho.1 ?_ (fun q _ hq => ceR_n (upA_n hq) (fun _ => rfl) (fun _ => rfl))
  unfold ceR
  rw [ho.2]
  show (.inl (t, n, .inl (upA σ.1 o g o)) : va_E) = _
  rw [upA_s]
theorem V_iast {o n : Nat} {i x : Int32} {σ9 : Sg} (hA : okA R A hp) (hd : decode M.2.1 pc = .ok (.iastore, 1)) (ho : o < R.2.2 ∧ R.1 o = (1, 0, n)) (hin : vp_in i n) (h9 : (upA σ.1 o (upd (σ.1 o) i.toNatClampNeg x), σ.2) = σ9) (kk : RnH hh G l M d P X (pc + 1) ls st (ov R A σ9 hp) c k) : RnH hh G l M d P X pc ls (.int x :: .int i :: .ref (A o) :: st) (ov R A σ hp) c k := by
  subst h9
  have e := ov_at (σ := σ) hA ho.1
  unfold ceR at e
  rw [ho.2] at e
  refine R_iast hd (hA.1 o ho.1).2 (hA.1 o ho.1).1 e hin ?_
  rw [ov_row hA ho]
  exact kk
theorem V_zast {o n : Nat} {i x : Int32} {σ9 : Sg} (hA : okA R A hp) (hd : decode M.2.1 pc = .ok (.bastore, 1)) (ho : o < R.2.2 ∧ R.1 o = (1, 1, n)) (hx : narrow .boolean (.int x) = .int x) (hin : vp_in i n) (h9 : (upA σ.1 o (upd (σ.1 o) i.toNatClampNeg x), σ.2) = σ9) (kk : RnH hh G l M d P X (pc + 1) ls st (ov R A σ9 hp) c k) : RnH hh G l M d P X pc ls (.int x :: .int i :: .ref (A o) :: st) (ov R A σ hp) c k := by
  subst h9
  have e := ov_at (σ := σ) hA ho.1
  unfold ceR at e
  rw [ho.2] at e
  refine R_zast hd hx (hA.1 o ho.1).2 (hA.1 o ho.1).1 e hin ?_
  rw [ov_row hA ho]
  exact kk
theorem V_bast {o n : Nat} {i x : Int32} {σ9 : Sg} (hA : okA R A hp) (hd : decode M.2.1 pc = .ok (.bastore, 1)) (ho : o < R.2.2 ∧ R.1 o = (1, 2, n)) (hx : narrow .byte (.int x) = .int x) (hin : vp_in i n) (h9 : (upA σ.1 o (upd (σ.1 o) i.toNatClampNeg x), σ.2) = σ9) (kk : RnH hh G l M d P X (pc + 1) ls st (ov R A σ9 hp) c k) : RnH hh G l M d P X pc ls (.int x :: .int i :: .ref (A o) :: st) (ov R A σ hp) c k := by
  subst h9
  have e := ov_at (σ := σ) hA ho.1
  unfold ceR at e
  rw [ho.2] at e
  refine R_bast hd hx (hA.1 o ho.1).2 (hA.1 o ho.1).1 e hin ?_
  rw [ov_row hA ho]
  exact kk
end RegR
