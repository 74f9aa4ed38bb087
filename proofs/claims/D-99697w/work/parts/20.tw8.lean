/-! THE TWIN's WORLD: one object at T, its arrays behind it. S8: (its ints and booleans by field, its int and boolean arrays by field, word, nName) -/
set_option maxRecDepth 100000
abbrev S8 : Type := (Nat → Int32) × (Nat → Nat → Int32) × Int64 × (Nat → Int64)
def k8L : List Nat := [1, 0, 0, 0, 0, 0, 0, 0, 0, 5, 3, 1, 1, 1, 1, 1, 1, 0, 0, 0, 0, 0, 0, 0, 0, 0, 1, 1, 1, 1, 1, 1, 1, 1, 1, 1, 1, 1, 1, 1, 1, 0, 0, 0, 0, 0, 0, 0, 0, 0, 0, 0, 0, 0, 0, 0, 0, 0, 0, 1, 1, 1, 0, 0, 1, 1, 1, 0, 1, 1, 1, 1, 2, 0, 0, 2, 2, 2, 1]
def o8L : List Nat := [1, 0, 0, 0, 0, 0, 0, 0, 0, 0, 2, 3, 4, 5, 6, 7, 8, 0, 0, 0, 0, 0, 0, 0, 0, 0, 9, 10, 11, 12, 13, 14, 15, 16, 17, 18, 19, 20, 21, 22, 23, 0, 0, 0, 0, 0, 0, 0, 0, 0, 0, 0, 0, 0, 0, 0, 0, 0, 0, 24, 25, 26, 0, 0, 27, 28, 29, 0, 30, 31, 32, 33, 34, 0, 0, 35, 36, 37, 38]
def n8L : List Nat := [1600, 0, 0, 0, 0, 0, 0, 0, 0, 0, 12, 320, 320, 320, 320, 160, 64, 0, 0, 0, 0, 0, 0, 0, 0, 0, 6, 6, 6, 6, 6, 6, 6, 6, 6, 6, 6, 6, 6, 6, 6, 0, 0, 0, 0, 0, 0, 0, 0, 0, 0, 0, 0, 0, 0, 0, 0, 0, 0, 39, 39, 1560, 0, 0, 6, 6, 36, 0, 64, 30, 30, 30, 30, 0, 0, 651, 31, 3, 117]
def j8L : List Nat := [0, 0, 10, 11, 12, 13, 14, 15, 16, 26, 27, 28, 29, 30, 31, 32, 33, 34, 35, 36, 37, 38, 39, 40, 59, 60, 61, 64, 65, 66, 68, 69, 70, 71, 72, 75, 76, 77, 78]
def NA : Nat := 39
def k8 (j : Nat) : Nat := k8L.getD j 0
def o8 (j : Nat) : Nat := o8L.getD j 0
def n8 (j : Nat) : Nat := n8L.getD j 0
def j8 (o : Nat) : Nat := j8L.getD o 0
def a8 (T j : Nat) : Nat := T + o8 j
def f8 (T : Nat) (σ : S8) (j : Nat) : Value := match k8 j with
  | 0 => .int (σ.1 j)
  | 5 => .long σ.2.2.1
  | _ => .ref (a8 T j)
def v8 (T : Nat) (σ : S8) : List Value := (List.range 79).map (f8 T σ)
def c8 (T : Nat) (σ : S8) (o : Nat) : va_E := match o with
  | 0 => .inr (0, v8 T σ)
  | o + 1 => match k8 (j8 (o + 1)) with
    | 2 => .inl (1, n8 (j8 (o + 1)), .inl (σ.2.1 (j8 (o + 1))))
    | 3 => .inl (3, n8 (j8 (o + 1)), .inr (.inl σ.2.2.2))
    | _ => .inl (0, n8 (j8 (o + 1)), .inl (σ.2.1 (j8 (o + 1))))
def tw (T : Nat) (σ : S8) (hp : Hp) : Hp := (fun i => if T ≤ i ∧ i < T + NA then c8 T σ (i - T) else hp.1 i, hp.2)
theorem o8_in : ∀ j, j < 79 → k8 j ≠ 0 → k8 j ≠ 5 → 0 < o8 j ∧ o8 j < NA ∧ j8 (o8 j) = j := by decide +kernel
theorem j8_in : ∀ o, o < NA → 0 < o → o8 (j8 o) = o ∧ j8 o < 79 ∧ k8 (j8 o) ≠ 0 ∧ k8 (j8 o) ≠ 5 := by decide +kernel
section Tw
variable {hh : List (Nat × Nat × Nat × Nat)} {G : Wd} {l : Launch} {M : MD} {d : Nat} {P : Option Value → Hp → Prop} {X : Nat → Hp → Prop} {pc : Nat} {ls st : List Value} {hp : Hp} {c k : Nat} {T : Nat} {σ : S8}
theorem tw_T : (tw T σ hp).1 T = .inr (0, v8 T σ) := by
  show (if T ≤ T ∧ T < T + NA then c8 T σ (T - T) else hp.1 T) = _
  rw [if_pos ⟨Nat.le_refl _, by unfold NA; omega⟩, Nat.sub_self]
  rfl
theorem tw_at {o : Nat} (h0 : 0 < o) (h : o < NA) : (tw T σ hp).1 (T + o) = c8 T σ o := by
  show (if T ≤ T + o ∧ T + o < T + NA then c8 T σ (T + o - T) else hp.1 (T + o)) = _
  rw [if_pos ⟨by omega, by omega⟩, Nat.add_sub_cancel_left]
theorem c8_at {j : Nat} (hj : j < 79) (h0 : k8 j ≠ 0) (h5 : k8 j ≠ 5) : c8 T σ (o8 j) = match k8 j with
    | 2 => .inl (1, n8 j, .inl (σ.2.1 j))
    | 3 => .inl (3, n8 j, .inr (.inl σ.2.2.2))
    | _ => .inl (0, n8 j, .inl (σ.2.1 j)) := by
  obtain ⟨h1, h2, h3⟩ := o8_in j hj h0 h5
  obtain ⟨o, ho⟩ : ∃ o, o8 j = o + 1 := ⟨o8 j - 1, by omega⟩
  rw [ho] at h3 ⊢
  show (match k8 (j8 (o + 1)) with
    | 2 => (.inl (1, n8 (j8 (o + 1)), .inl (σ.2.1 (j8 (o + 1)))) : va_E)
    | 3 => .inl (3, n8 (j8 (o + 1)), .inr (.inl σ.2.2.2))
    | _ => .inl (0, n8 (j8 (o + 1)), .inl (σ.2.1 (j8 (o + 1))))) = _
  rw [h3]
theorem tw_a {j : Nat} (hj : j < 79) (h0 : k8 j ≠ 0) (h5 : k8 j ≠ 5) : (tw T σ hp).1 (a8 T j) = match k8 j with
    | 2 => .inl (1, n8 j, .inl (σ.2.1 j))
    | 3 => .inl (3, n8 j, .inr (.inl σ.2.2.2))
    | _ => .inl (0, n8 j, .inl (σ.2.1 j)) := by
  obtain ⟨h1, h2, h3⟩ := o8_in j hj h0 h5
  show (tw T σ hp).1 (T + o8 j) = _
  rw [tw_at h1 h2, c8_at hj h0 h5]
theorem v8_at {j : Nat} (hj : j < 79) : (v8 T σ)[j]? = some (f8 T σ j) := by
  unfold v8
  rw [List.getElem?_map, List.getElem?_range hj]
  rfl
theorem v8_set {σ' : S8} {fk : Nat} {v : Value} (h : ∀ j, j < 79 → f8 T σ' j = if j = fk then v else f8 T σ j) : (v8 T σ).set fk v = v8 T σ' := by
  apply List.ext_getElem?
  intro j
  by_cases hj : j < 79
  · rw [v8_at hj, h j hj]
    by_cases e : j = fk
    · subst e
      rw [List.getElem?_set_self (by unfold v8; simpa using hj), if_pos rfl]
    · rw [List.getElem?_set_ne (Ne.symm e), v8_at hj, if_neg e]
  · have l1 : ((v8 T σ).set fk v).length = 79 := by unfold v8; simp
    have l2 : (v8 T σ').length = 79 := by unfold v8; simp
    rw [List.getElem?_eq_none (by omega), List.getElem?_eq_none (by omega)]
theorem c8_2 {σ σ' : S8} (h : σ'.2 = σ.2) {o : Nat} (ho : 0 < o) : c8 T σ' o = c8 T σ o := by
  cases o with
  | zero => omega
  | succ o =>
    unfold c8
    rw [h]
theorem tw_put {σ' : S8} {fk : Nat} {v : Value} (h : ∀ j, j < 79 → f8 T σ' j = if j = fk then v else f8 T σ j) (h2 : ∀ o, 0 < o → o < NA → c8 T σ' o = c8 T σ o) : hset (tw T σ hp) T (.inr (0, (v8 T σ).set fk v)) = tw T σ' hp := by
  apply Prod.ext
  · funext i
    show (if i = T then _ else (tw T σ hp).1 i) = (tw T σ' hp).1 i
    by_cases e : i = T
    · subst e
      rw [if_pos rfl, tw_T, v8_set h]
    · rw [if_neg e]
      show (if T ≤ i ∧ i < T + NA then c8 T σ (i - T) else hp.1 i) = (if T ≤ i ∧ i < T + NA then c8 T σ' (i - T) else hp.1 i)
      by_cases hi : T ≤ i ∧ i < T + NA
      · rw [if_pos hi, if_pos hi, h2 _ (by omega) (by omega)]
      · rw [if_neg hi, if_neg hi]
  · rfl
theorem tw_arr {σ' : S8} {j : Nat} {e : va_E} (hj : j < 79) (h0 : k8 j ≠ 0) (h5 : k8 j ≠ 5) (he : c8 T σ' (o8 j) = e) (h : ∀ o, o < NA → o ≠ o8 j → c8 T σ' o = c8 T σ o) : hset (tw T σ hp) (a8 T j) e = tw T σ' hp := by
  obtain ⟨h1, h2, h3⟩ := o8_in j hj h0 h5
  apply Prod.ext
  · funext i
    show (if i = a8 T j then _ else (tw T σ hp).1 i) = (tw T σ' hp).1 i
    by_cases e1 : i = a8 T j
    · subst e1
      rw [if_pos rfl, ← he]
      show _ = (tw T σ' hp).1 (T + o8 j)
      rw [tw_at h1 h2]
    · rw [if_neg e1]
      show (if T ≤ i ∧ i < T + NA then c8 T σ (i - T) else hp.1 i) = (if T ≤ i ∧ i < T + NA then c8 T σ' (i - T) else hp.1 i)
      by_cases hi : T ≤ i ∧ i < T + NA
      · rw [if_pos hi, if_pos hi, h _ (by omega) (fun q => e1 (by unfold a8; omega))]
      · rw [if_neg hi, if_neg hi]
  · rfl
theorem T8b_get {index fk : Nat} (hT : T + NA ≤ hp.2) (hd : decode M.2.1 pc = .ok (.getfield index, 3)) (hf : Fl M.1.cls index 0 fk) (hk : fk < 79 ∧ k8 fk = 0) (kk : RnH hh G l M d P X (pc + 3) ls (.int (σ.1 fk) :: st) (tw T σ hp) c k) : RnH hh G l M d P X pc ls (.ref T :: st) (tw T σ hp) c k := by
  refine R_get hd hf (by show T < hp.2; unfold NA at hT; omega) tw_T (v := .int (σ.1 fk)) ?_ kk
  rw [v8_at hk.1]
  unfold f8
  rw [hk.2]
  rfl
theorem T8b_getw {index : Nat} (hT : T + NA ≤ hp.2) (hd : decode M.2.1 pc = .ok (.getfield index, 3)) (hf : Fl M.1.cls index 0 9) (kk : RnH hh G l M d P X (pc + 3) ls (.long σ.2.2.1 :: st) (tw T σ hp) c k) : RnH hh G l M d P X pc ls (.ref T :: st) (tw T σ hp) c k := by
  refine R_get hd hf (by show T < hp.2; unfold NA at hT; omega) tw_T (v := .long σ.2.2.1) ?_ kk
  rw [v8_at (by decide)]
  rfl
theorem T8_geta {index fk : Nat} (hT : T + NA ≤ hp.2) (hd : decode M.2.1 pc = .ok (.getfield index, 3)) (hf : Fl M.1.cls index 0 fk) (hk : fk < 79 ∧ k8 fk ≠ 0 ∧ k8 fk ≠ 5) (kk : RnH hh G l M d P X (pc + 3) ls (.ref (a8 T fk) :: st) (tw T σ hp) c k) : RnH hh G l M d P X pc ls (.ref T :: st) (tw T σ hp) c k := by
  refine R_get hd hf (by show T < hp.2; unfold NA at hT; omega) tw_T (v := .ref (a8 T fk)) ?_ kk
  rw [v8_at hk.1]
  unfold f8
  split
  · rename_i h; exact absurd h hk.2.1
  · rename_i h; exact absurd h hk.2.2
  · rfl
theorem T8b_put {index fk : Nat} {x : Int32} {ty : FieldType} (hK : K0 ≤ T) (hT : T + NA ≤ hp.2) (hd : decode M.2.1 pc = .ok (.putfield index, 3)) (hf : Fl M.1.cls index 0 fk) (ht : Ft 0 fk ty false) (hn : narrow ty (.int x) = .int x) (hfit : fits ty (.int x) = true) (hk : fk < 79 ∧ k8 fk = 0) (kk : RnH hh G l M d P X (pc + 3) ls st (tw T (upd σ.1 fk x, σ.2) hp) c k) : RnH hh G l M d P X pc ls (.int x :: .ref T :: st) (tw T σ hp) c k := by
  refine R_put hd hf ht hn hfit (by show T < hp.2; unfold NA at hT; omega) hK tw_T (by unfold v8; simpa using hk.1) ?_
  rw [tw_put (T := T) (σ := σ) (σ' := (upd σ.1 fk x, σ.2)) (fun j hj => ?_) (fun o h1 h2 => c8_2 (σ := σ) (σ' := (upd σ.1 fk x, σ.2)) rfl h1)]
  · exact kk
  · unfold f8
    by_cases e : j = fk
    · subst e
      rw [hk.2, if_pos rfl]
      simp [upd]
    · rw [if_neg e]
      split
      · simp [upd, e]
      · rfl
      · rfl
theorem T8b_putw {index : Nat} {x : Int64} (hK : K0 ≤ T) (hT : T + NA ≤ hp.2) (hd : decode M.2.1 pc = .ok (.putfield index, 3)) (hf : Fl M.1.cls index 0 9) (ht : Ft 0 9 .long false) (kk : RnH hh G l M d P X (pc + 3) ls st (tw T (σ.1, σ.2.1, x, σ.2.2.2) hp) c k) : RnH hh G l M d P X pc ls (.long x :: .ref T :: st) (tw T σ hp) c k := by
  refine R_put hd hf ht rfl rfl (by show T < hp.2; unfold NA at hT; omega) hK tw_T (by unfold v8; simp) ?_
  rw [tw_put (T := T) (σ := σ) (σ' := (σ.1, σ.2.1, x, σ.2.2.2)) (fun j hj => ?_) (fun o h1 h2 => ?_)]
  · exact kk
  · by_cases e : j = 9
    · subst e
      rw [if_pos rfl]
      rfl
    · rw [if_neg e]
      have h9 : k8 j ≠ 5 := by
        have : ∀ j, j < 79 → k8 j = 5 → j = 9 := by decide +kernel
        exact fun h => e (this j hj h)
      unfold f8
      split
      · rfl
      · rename_i h; exact absurd h h9
      · rfl
  · cases o with
    | zero => omega
    | succ o => rfl
theorem a8_lt {j : Nat} (hT : T + NA ≤ hp.2) (hj : j < 79) (h0 : k8 j ≠ 0) (h5 : k8 j ≠ 5) : a8 T j < hp.2 := by
  have := o8_in j hj h0 h5
  unfold a8
  omega
theorem T8b_iald {j : Nat} {i : Int32} (hT : T + NA ≤ hp.2) (hd : decode M.2.1 pc = .ok (.iaload, 1)) (hk : j < 79 ∧ k8 j = 1) (hin : vp_in i (n8 j)) (kk : RnH hh G l M d P X (pc + 1) ls (.int (σ.2.1 j i.toNatClampNeg) :: st) (tw T σ hp) c k) : RnH hh G l M d P X pc ls (.int i :: .ref (a8 T j) :: st) (tw T σ hp) c k := by
  have e := tw_a (T := T) (σ := σ) (hp := hp) hk.1 (by omega) (by omega)
  rw [hk.2] at e
  exact R_iald hd (a8_lt hT hk.1 (by omega) (by omega)) e hin kk
theorem T8b_zald {j : Nat} {i : Int32} (hT : T + NA ≤ hp.2) (hd : decode M.2.1 pc = .ok (.baload, 1)) (hk : j < 79 ∧ k8 j = 2) (hin : vp_in i (n8 j)) (kk : RnH hh G l M d P X (pc + 1) ls (.int (σ.2.1 j i.toNatClampNeg) :: st) (tw T σ hp) c k) : RnH hh G l M d P X pc ls (.int i :: .ref (a8 T j) :: st) (tw T σ hp) c k := by
  have e := tw_a (T := T) (σ := σ) (hp := hp) hk.1 (by omega) (by omega)
  rw [hk.2] at e
  exact R_zald hd (a8_lt hT hk.1 (by omega) (by omega)) e hin kk
theorem T8b_lald {i : Int32} (hT : T + NA ≤ hp.2) (hd : decode M.2.1 pc = .ok (.laload, 1)) (hin : vp_in i 12) (kk : RnH hh G l M d P X (pc + 1) ls (.long (σ.2.2.2 i.toNatClampNeg) :: st) (tw T σ hp) c k) : RnH hh G l M d P X pc ls (.int i :: .ref (a8 T 10) :: st) (tw T σ hp) c k := by
  have e := tw_a (T := T) (σ := σ) (hp := hp) (j := 10) (by decide) (by decide) (by decide)
  exact R_lald hd (a8_lt hT (by decide) (by decide) (by decide)) e hin kk
def upA (f : Nat → Nat → Int32) (j : Nat) (g : Nat → Int32) : Nat → Nat → Int32 := fun q => if q = j then g else f q
theorem c8_upA {j : Nat} {g : Nat → Int32} : ∀ o, o < NA → o ≠ o8 j → c8 T (σ.1, upA σ.2.1 j g, σ.2.2) o = c8 T σ o := by
  intro o ho h
  cases o with
  | zero => rfl
  | succ o =>
    obtain ⟨q1, q2, q3, q4⟩ := j8_in (o + 1) ho (by omega)
    have hne : j8 (o + 1) ≠ j := fun e => h (by rw [← e]; exact q1.symm)
    unfold c8
    simp only [upA, if_neg hne]
theorem T8b_iast {j : Nat} {i x : Int32} (hK : K0 ≤ T) (hT : T + NA ≤ hp.2) (hd : decode M.2.1 pc = .ok (.iastore, 1)) (hk : j < 79 ∧ k8 j = 1) (hin : vp_in i (n8 j)) (kk : RnH hh G l M d P X (pc + 1) ls st (tw T (σ.1, upA σ.2.1 j (upd (σ.2.1 j) i.toNatClampNeg x), σ.2.2) hp) c k) : RnH hh G l M d P X pc ls (.int x :: .int i :: .ref (a8 T j) :: st) (tw T σ hp) c k := by
  have e := tw_a (T := T) (σ := σ) (hp := hp) hk.1 (by omega) (by omega)
  rw [hk.2] at e
  refine R_iast hd (a8_lt hT hk.1 (by omega) (by omega)) (by unfold a8; omega) e hin ?_
  rw [tw_arr (T := T) (σ := σ) (σ' := (σ.1, upA σ.2.1 j (upd (σ.2.1 j) i.toNatClampNeg x), σ.2.2)) hk.1 (by omega) (by omega) ?_ c8_upA]
  · exact kk
  · rw [c8_at hk.1 (by omega) (by omega), hk.2]
    simp [upA]
theorem T8b_zast {j : Nat} {i x : Int32} (hK : K0 ≤ T) (hT : T + NA ≤ hp.2) (hd : decode M.2.1 pc = .ok (.bastore, 1)) (hk : j < 79 ∧ k8 j = 2) (hx : narrow .boolean (.int x) = .int x) (hin : vp_in i (n8 j)) (kk : RnH hh G l M d P X (pc + 1) ls st (tw T (σ.1, upA σ.2.1 j (upd (σ.2.1 j) i.toNatClampNeg x), σ.2.2) hp) c k) : RnH hh G l M d P X pc ls (.int x :: .int i :: .ref (a8 T j) :: st) (tw T σ hp) c k := by
  have e := tw_a (T := T) (σ := σ) (hp := hp) hk.1 (by omega) (by omega)
  rw [hk.2] at e
  refine R_zast hd hx (a8_lt hT hk.1 (by omega) (by omega)) (by unfold a8; omega) e hin ?_
  rw [tw_arr (T := T) (σ := σ) (σ' := (σ.1, upA σ.2.1 j (upd (σ.2.1 j) i.toNatClampNeg x), σ.2.2)) hk.1 (by omega) (by omega) ?_ c8_upA]
  · exact kk
  · rw [c8_at hk.1 (by omega) (by omega), hk.2]
    simp [upA]
theorem T8b_last {i : Int32} {x : Int64} (hK : K0 ≤ T) (hT : T + NA ≤ hp.2) (hd : decode M.2.1 pc = .ok (.lastore, 1)) (hin : vp_in i 12) (kk : RnH hh G l M d P X (pc + 1) ls st (tw T (σ.1, σ.2.1, σ.2.2.1, vp_updL σ.2.2.2 i.toNatClampNeg x) hp) c k) : RnH hh G l M d P X pc ls (.long x :: .int i :: .ref (a8 T 10) :: st) (tw T σ hp) c k := by
  have e := tw_a (T := T) (σ := σ) (hp := hp) (j := 10) (by decide) (by decide) (by decide)
  refine R_last hd (a8_lt hT (by decide) (by decide) (by decide)) (by unfold a8; omega) e hin ?_
  rw [tw_arr (T := T) (σ := σ) (σ' := (σ.1, σ.2.1, σ.2.2.1, vp_updL σ.2.2.2 i.toNatClampNeg x)) (by decide) (by decide) (by decide) ?_ ?_]
  · exact kk
  · rw [c8_at (by decide) (by decide) (by decide)]
    rfl
  · intro o ho h
    cases o with
    | zero => rfl
    | succ o =>
      obtain ⟨q1, q2, q3, q4⟩ := j8_in (o + 1) ho (by omega)
      have hne : k8 (j8 (o + 1)) ≠ 3 := by
        have : ∀ j, j < 79 → k8 j = 3 → j = 10 := by decide +kernel
        intro q
        exact h (by rw [← this _ q2 q]; exact q1.symm)
      simp only [c8]
      split
      · rfl
      · rename_i q; exact absurd q hne
      · rfl
end Tw
/-- a frame of the twin, at pc: it returns r, the twin is then σ1 -/
def Rn8 (M : MD) (d pc : Nat) (ls : List Value) (st : Nat → List Value) (σ : S8) (r : Option Value) (σ1 : S8) : Prop := ∀ (G : Wd) (l : Launch) (T : Nat) (hp : Hp), K0 ≤ T → T + NA ≤ hp.2 → RnH [] G l M d (fun v hp1 => v = r ∧ hp1 = tw T σ1 hp) noX pc (.ref T :: ls) (st T) (tw T σ hp) 0 0
/-- a method of the twin: from σ it returns r, the twin is then σ1 -/
def Tw8 (M : MD) (d : Nat) (as : List Value) (σ : S8) (r : Option Value) (σ1 : S8) : Prop := ∀ (G : Wd) (l : Launch) (T : Nat) (hp : Hp), K0 ≤ T → T + NA ≤ hp.2 → Ev G l M d 0 0 (.ref T :: as) (tw T σ hp) (fun v hp1 => v = r ∧ hp1 = tw T σ1 hp)
/-- a static method that touches nothing -/
def RnS (M : MD) (d pc : Nat) (ls st : List Value) (r : Option Value) : Prop := ∀ (G : Wd) (l : Launch) (hp : Hp), RnH [] G l M d (fun v hp1 => v = r ∧ hp1 = hp) noX pc ls st hp 0 0
def St8 (M : MD) (d : Nat) (as : List Value) (r : Option Value) : Prop := ∀ (G : Wd) (l : Launch) (hp : Hp), Ev G l M d 0 0 as hp (fun v hp1 => v = r ∧ hp1 = hp)
section Rules2
variable {hh : List (Nat × Nat × Nat × Nat)} {G : Wd} {l : Launch} {M : MD} {d : Nat} {P : Option Value → Hp → Prop} {X : Nat → Hp → Prop} {pc : Nat} {ls st : List Value} {hp : Hp} {c k : Nat} {T : Nat} {σ : S8}
theorem R_drop (i : Nat) (kk : RnH hh G l M d P X pc (ls.set i U_) st hp c k) : RnH hh G l M d P X pc ls st hp c k := by
  intro p e s m args below meth cd mc ms H locs cells slots la C g S L h1 h2
  refine kk p e s m args below meth cd mc ms H locs cells slots la C g S (lv_less L ?_) h1 h2
  intro q hq
  obtain ⟨j, v, e1, e2, e3⟩ := (lvL_mem _ 0 q).mp hq
  refine (lvL_mem _ 0 q).mpr ⟨j, v, ?_, e2, e3⟩
  by_cases h : i = j
  · subst h
    have hl : i < (ls.set i U_).length := (List.getElem?_eq_some_iff.mp e1).1
    rw [List.length_set] at hl
    rw [List.getElem?_set_self hl] at e1
    cases e1
    cases e2
  · rw [List.getElem?_set_ne h] at e1
    exact e1
theorem T8_call {index n : Nat} {N : MD} {r : Option Value} {σ1 : S8} {rest : List Value} (As : List Value) (hK : K0 ≤ T) (hT : T + NA ≤ hp.2) (hd : decode M.2.1 pc = .ok (.invokevirtual index, 3)) (hc : CV M.1.cls index N n) (hcl : N.1.cls = RX8) (hst : st = As.reverse ++ .ref T :: rest) (hn : As.length = n) (hw : (rest.map Value.category).sum ≤ 8) (hev : Tw8 N d As σ r σ1)
    (kk : RnH hh G l M (d + 1) P X (pc + 3) ls (r.toList ++ rest) (tw T σ1 hp) c k) : RnH hh G l M (d + 1) P X pc ls st (tw T σ hp) c k := by
  refine R_callV hd hc hst hn hw (by show T < hp.2; unfold NA at hT; omega) tw_T (by rw [hcl]; rfl) (hev G l T hp hK hT) (Nat.zero_le _) (Nat.zero_le _) (fun v hp1 hq => ?_)
  obtain ⟨rfl, rfl⟩ := hq
  exact kk
theorem T8_callS {index n : Nat} {N : MD} {r : Option Value} {rest : List Value} (As : List Value) (hd : decode M.2.1 pc = .ok (.invokestatic index, 3)) (hc : CS M.1.cls index N n) (hst : st = As.reverse ++ rest) (hn : As.length = n) (hw : (rest.map Value.category).sum ≤ 8) (hev : St8 N d As r)
    (kk : RnH hh G l M (d + 1) P X (pc + 3) ls (r.toList ++ rest) hp c k) : RnH hh G l M (d + 1) P X pc ls st hp c k := by
  refine R_callS hd hc hst hn hw (hev G l hp) (Nat.zero_le _) (Nat.zero_le _) (fun v hp1 hq => ?_)
  obtain ⟨rfl, rfl⟩ := hq
  exact kk
end Rules2
theorem Tw8.of {M : MD} {d : Nat} {as : List Value} {σ σ1 : S8} {r : Option Value} (hy : plainName M.1.cls = true) {ls : List Value} (hls : ∀ T, eL (.ref T :: as) M.2.2.1 = .ref T :: ls) (hn : ∀ (G : Wd) (T : Nat), (lg_sl ((.ref T :: as).map (cv G))).length ≤ M.2.2.1) (h : Rn8 M d 0 ls (fun _ => []) σ r σ1) : Tw8 M d as σ r σ1 := by
  intro G l T hp hK hT
  refine Ev.of hy (hn G T) ?_
  rw [hls T]
  exact h G l T hp hK hT
theorem St8.of {M : MD} {d : Nat} {as : List Value} {r : Option Value} (hy : plainName M.1.cls = true) {ls : List Value} (hls : eL as M.2.2.1 = ls) (hn : ∀ (G : Wd), (lg_sl (as.map (cv G))).length ≤ M.2.2.1) (h : RnS M d 0 ls [] r) : St8 M d as r := by
  intro G l hp
  refine Ev.of hy (hn G) ?_
  rw [hls]
  exact h G l hp
