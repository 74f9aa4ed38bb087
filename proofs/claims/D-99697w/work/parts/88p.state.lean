/-! states: made, copied -/
set_option maxRecDepth 100000
abbrev rw6 (f : Nat → Int32) : va_E := .inl (0, 6, .inl f)
abbrev stC (g : Nat → Nat) (t : Nat → Int32) : va_E := .inr (3, [.ref (g 0), .ref (g 1), .ref (g 2), .ref (g 3), .ref (g 4), .ref (g 5), .int (t 0), .int (t 1), .int (t 2)])
/-- a state at s: its rows lie at g and hold r, its numbers are t -/
def isSt (hp : Hp) (s : Nat) (g : Nat → Nat) (r : Nat → Nat → Int32) (t : Nat → Int32) : Prop := s < hp.2 ∧ hp.1 s = stC g t ∧ ∀ p, p < 6 → g p < hp.2 ∧ hp.1 (g p) = rw6 (r p)
theorem hnsC {hp : Hp} {a : Nat} {e e' : va_E} (h : a ≠ hp.2) : hnew (hset hp a e) e' = hset (hnew hp e') a e := by
  apply Prod.ext
  · funext i
    show (if i = hp.2 then e' else if i = a then e else hp.1 i) = if i = a then e else if i = hp.2 then e' else hp.1 i
    by_cases h1 : i = a
    · rw [if_neg (fun z => h (h1.symm.trans z)), if_pos h1, if_pos h1]
    · rw [if_neg h1, if_neg h1]
  · rfl
section S1
variable {G : Wd} {l : Launch} {hp : Hp} {a b : Nat} {ga gb : Nat → Nat} {ra rb : Nat → Nat → Int32} {ta tb : Nat → Int32}
/-- k rows are copied -/
def ofI (hp : Hp) (a b : Nat) (ga gb : Nat → Nat) (ra rb : Nat → Nat → Int32) (ta tb : Nat → Int32) (k : Nat) (h : Hp) : Prop := h.2 = hp.2 ∧ h.1 b = stC gb tb ∧ h.1 a = stC ga ta ∧ (∀ p, p < 6 → h.1 (gb p) = rw6 (rb p)) ∧ (∀ p, p < 6 → k ≤ p → h.1 (ga p) = rw6 (ra p)) ∧ (∀ p, p < k → ∃ f, h.1 (ga p) = rw6 f ∧ ∀ j, j < 6 → f j = rb p j) ∧ ∀ i, i ≠ a → (∀ p, p < 6 → i ≠ ga p) → h.1 i = hp.1 i
/-- apart -/
def ofD (a b : Nat) (ga gb : Nat → Nat) : Prop := a ≠ b ∧ (∀ p, p < 6 → ga p ≠ a ∧ ga p ≠ b ∧ gb p ≠ a) ∧ (∀ p q, p < 6 → q < 6 → ga p = ga q → p = q) ∧ ∀ p q, p < 6 → q < 6 → ga p ≠ gb q
theorem ofI.step {k : Nat} {h : Hp} (hD : ofD a b ga gb) (hI : ofI hp a b ga gb ra rb ta tb k h) (hk : k < 6) : ofI hp a b ga gb ra rb ta tb (k + 1) (hset h (ga k) (rw6 (va_cpy (rb k) (ra k) 0 0 6))) := by
  obtain ⟨i1, i2, i3, i4, i5, i6, i7⟩ := hI
  refine ⟨i1, by rw [hsN (fun z => (hD.2.1 k hk).2.1 z.symm)]; exact i2, by rw [hsN (fun z => (hD.2.1 k hk).1 z.symm)]; exact i3, fun p hp' => by rw [hsN (fun z => hD.2.2.2 k p hk hp' z.symm)]; exact i4 p hp', fun p hp' hkp => by rw [hsN (fun z => by have := hD.2.2.1 p k hp' hk z; omega)]; exact i5 p hp' (by omega), fun p hpk => ?_, fun i h1 h2 => by rw [hsN (h2 k hk)]; exact i7 i h1 h2⟩
  by_cases e : p = k
  · subst e
    refine ⟨_, hsS, fun j hj => ?_⟩
    rw [pk_cpy_in (Nat.zero_le _) (by omega), Nat.zero_add, Nat.sub_zero]
  · obtain ⟨f, f1, f2⟩ := i6 p (by omega)
    exact ⟨f, by rw [hsN (fun z => by have := hD.2.2.1 p k (by omega) hk z; omega)]; exact f1, f2⟩
theorem ev_of2 (d : Nat) (ha : isSt hp a ga ra ta) (hb : isSt hp b gb rb tb) (hKa : K0 ≤ a) (hKg : ∀ p, p < 6 → K0 ≤ ga p) (hD : ofD a b ga gb) : Ev G l mX2_of (d + 1) 0 0 [.ref a, .ref b] hp (fun v h => v = none ∧ h.2 = hp.2 ∧ h.1 a = stC ga tb ∧ (∀ p, p < 6 → ∃ f, h.1 (ga p) = rw6 f ∧ ∀ j, j < 6 → f j = rb p j) ∧ ∀ i, i ≠ a → (∀ p, p < 6 → i ≠ ga p) → h.1 i = hp.1 i) := by
  have z6 : (6 : Int32).toNatClampNeg = 6 := by decide
  have z0 : (0 : Int32).toNatClampNeg = 0 := by decide
  have hI : ofI hp a b ga gb ra rb ta tb 0 hp := ⟨rfl, hb.2.1, ha.2.1, fun p h => (hb.2.2 p h).2, fun p h _ => (ha.2.2 p h).2, fun p h => absurd h (by omega), fun _ _ _ => rfl⟩
  refine Ev.of (by decide) (Nat.le_of_ble_eq_true rfl) ?_
  have go : ∀ h, ofI hp a b ga gb ra rb ta tb 0 h → RnH [] G l mX2_of (d + 1) (fun v h => v = none ∧ h.2 = hp.2 ∧ h.1 a = stC ga tb ∧ (∀ p, p < 6 → ∃ f, h.1 (ga p) = rw6 f ∧ ∀ j, j < 6 → f j = rb p j) ∧ ∀ i, i ≠ a → (∀ p, p < 6 → i ≠ ga p) → h.1 i = hp.1 i) noX 0 [.ref a, .ref b] [] h 0 0 := by
    intro h0 I0
    refine R_aload_n dX2_of_0 rfl ?_
    refine R_getM dX2_of_1 fm_X2_9_3 (by rw [I0.1]; exact hb.1) I0.2.1 (v := .ref (gb 0)) rfl ?_
    refine R_iconst (v := 0) dX2_of_4 (by decide) ?_
    refine R_aload_n dX2_of_5 rfl ?_
    refine R_getM dX2_of_6 fm_X2_9_3 (by rw [I0.1]; exact ha.1) I0.2.2.1 (v := .ref (ga 0)) rfl ?_
    refine R_iconst (v := 0) dX2_of_9 (by decide) ?_
    refine R_bipush (v := 6) dX2_of_10 (by decide) ?_
    refine R_copyi dX2_of_12 q1090 ⟨q865, q864, q140⟩ (by rw [I0.1]; exact (hb.2.2 0 (by decide)).1) (I0.2.2.2.1 0 (by decide)) (by rw [I0.1]; exact (ha.2.2 0 (by decide)).1) (hKg 0 (by decide)) (I0.2.2.2.2.1 0 (by decide) (by decide)) (by decide) (by decide) (by decide) (by decide) (by decide) (Nat.le_of_ble_eq_true rfl) ?_
    rw [z0, z6]
    have I1 := I0.step hD (by decide)
    revert I1
    generalize hset h0 (ga 0) (rw6 (va_cpy (rb 0) (ra 0) 0 0 6)) = h1
    intro I1
    refine R_aload_n dX2_of_15 rfl ?_
    refine R_getM dX2_of_16 fm_X2_15_3 (by rw [I1.1]; exact hb.1) I1.2.1 (v := .ref (gb 1)) rfl ?_
    refine R_iconst (v := 0) dX2_of_19 (by decide) ?_
    refine R_aload_n dX2_of_20 rfl ?_
    refine R_getM dX2_of_21 fm_X2_15_3 (by rw [I1.1]; exact ha.1) I1.2.2.1 (v := .ref (ga 1)) rfl ?_
    refine R_iconst (v := 0) dX2_of_24 (by decide) ?_
    refine R_bipush (v := 6) dX2_of_25 (by decide) ?_
    refine R_copyi dX2_of_27 q1090 ⟨q865, q864, q140⟩ (by rw [I1.1]; exact (hb.2.2 1 (by decide)).1) (I1.2.2.2.1 1 (by decide)) (by rw [I1.1]; exact (ha.2.2 1 (by decide)).1) (hKg 1 (by decide)) (I1.2.2.2.2.1 1 (by decide) (by decide)) (by decide) (by decide) (by decide) (by decide) (by decide) (Nat.le_of_ble_eq_true rfl) ?_
    rw [z0, z6]
    have I2 := I1.step hD (by decide)
    revert I2
    generalize hset h1 (ga 1) (rw6 (va_cpy (rb 1) (ra 1) 0 0 6)) = h2
    intro I2
    refine R_aload_n dX2_of_30 rfl ?_
    refine R_getM dX2_of_31 fm_X2_18_3 (by rw [I2.1]; exact hb.1) I2.2.1 (v := .ref (gb 2)) rfl ?_
    refine R_iconst (v := 0) dX2_of_34 (by decide) ?_
    refine R_aload_n dX2_of_35 rfl ?_
    refine R_getM dX2_of_36 fm_X2_18_3 (by rw [I2.1]; exact ha.1) I2.2.2.1 (v := .ref (ga 2)) rfl ?_
    refine R_iconst (v := 0) dX2_of_39 (by decide) ?_
    refine R_bipush (v := 6) dX2_of_40 (by decide) ?_
    refine R_copyi dX2_of_42 q1090 ⟨q865, q864, q140⟩ (by rw [I2.1]; exact (hb.2.2 2 (by decide)).1) (I2.2.2.2.1 2 (by decide)) (by rw [I2.1]; exact (ha.2.2 2 (by decide)).1) (hKg 2 (by decide)) (I2.2.2.2.2.1 2 (by decide) (by decide)) (by decide) (by decide) (by decide) (by decide) (by decide) (Nat.le_of_ble_eq_true rfl) ?_
    rw [z0, z6]
    have I3 := I2.step hD (by decide)
    revert I3
    generalize hset h2 (ga 2) (rw6 (va_cpy (rb 2) (ra 2) 0 0 6)) = h3
    intro I3
    refine R_aload_n dX2_of_45 rfl ?_
    refine R_getM dX2_of_46 fm_X2_21_3 (by rw [I3.1]; exact hb.1) I3.2.1 (v := .ref (gb 3)) rfl ?_
    refine R_iconst (v := 0) dX2_of_49 (by decide) ?_
    refine R_aload_n dX2_of_50 rfl ?_
    refine R_getM dX2_of_51 fm_X2_21_3 (by rw [I3.1]; exact ha.1) I3.2.2.1 (v := .ref (ga 3)) rfl ?_
    refine R_iconst (v := 0) dX2_of_54 (by decide) ?_
    refine R_bipush (v := 6) dX2_of_55 (by decide) ?_
    refine R_copyi dX2_of_57 q1090 ⟨q865, q864, q140⟩ (by rw [I3.1]; exact (hb.2.2 3 (by decide)).1) (I3.2.2.2.1 3 (by decide)) (by rw [I3.1]; exact (ha.2.2 3 (by decide)).1) (hKg 3 (by decide)) (I3.2.2.2.2.1 3 (by decide) (by decide)) (by decide) (by decide) (by decide) (by decide) (by decide) (Nat.le_of_ble_eq_true rfl) ?_
    rw [z0, z6]
    have I4 := I3.step hD (by decide)
    revert I4
    generalize hset h3 (ga 3) (rw6 (va_cpy (rb 3) (ra 3) 0 0 6)) = h4
    intro I4
    refine R_aload_n dX2_of_60 rfl ?_
    refine R_getM dX2_of_61 fm_X2_24_3 (by rw [I4.1]; exact hb.1) I4.2.1 (v := .ref (gb 4)) rfl ?_
    refine R_iconst (v := 0) dX2_of_64 (by decide) ?_
    refine R_aload_n dX2_of_65 rfl ?_
    refine R_getM dX2_of_66 fm_X2_24_3 (by rw [I4.1]; exact ha.1) I4.2.2.1 (v := .ref (ga 4)) rfl ?_
    refine R_iconst (v := 0) dX2_of_69 (by decide) ?_
    refine R_bipush (v := 6) dX2_of_70 (by decide) ?_
    refine R_copyi dX2_of_72 q1090 ⟨q865, q864, q140⟩ (by rw [I4.1]; exact (hb.2.2 4 (by decide)).1) (I4.2.2.2.1 4 (by decide)) (by rw [I4.1]; exact (ha.2.2 4 (by decide)).1) (hKg 4 (by decide)) (I4.2.2.2.2.1 4 (by decide) (by decide)) (by decide) (by decide) (by decide) (by decide) (by decide) (Nat.le_of_ble_eq_true rfl) ?_
    rw [z0, z6]
    have I5 := I4.step hD (by decide)
    revert I5
    generalize hset h4 (ga 4) (rw6 (va_cpy (rb 4) (ra 4) 0 0 6)) = h5
    intro I5
    refine R_aload_n dX2_of_75 rfl ?_
    refine R_getM dX2_of_76 fm_X2_27_3 (by rw [I5.1]; exact hb.1) I5.2.1 (v := .ref (gb 5)) rfl ?_
    refine R_iconst (v := 0) dX2_of_79 (by decide) ?_
    refine R_aload_n dX2_of_80 rfl ?_
    refine R_getM dX2_of_81 fm_X2_27_3 (by rw [I5.1]; exact ha.1) I5.2.2.1 (v := .ref (ga 5)) rfl ?_
    refine R_iconst (v := 0) dX2_of_84 (by decide) ?_
    refine R_bipush (v := 6) dX2_of_85 (by decide) ?_
    refine R_copyi dX2_of_87 q1090 ⟨q865, q864, q140⟩ (by rw [I5.1]; exact (hb.2.2 5 (by decide)).1) (I5.2.2.2.1 5 (by decide)) (by rw [I5.1]; exact (ha.2.2 5 (by decide)).1) (hKg 5 (by decide)) (I5.2.2.2.2.1 5 (by decide) (by decide)) (by decide) (by decide) (by decide) (by decide) (by decide) (Nat.le_of_ble_eq_true rfl) ?_
    rw [z0, z6]
    have I6 := I5.step hD (by decide)
    revert I6
    generalize hset h5 (ga 5) (rw6 (va_cpy (rb 5) (ra 5) 0 0 6)) = h6
    intro I6
    refine R_aload_n dX2_of_90 rfl ?_
    refine R_aload_n dX2_of_91 rfl ?_
    refine R_getM dX2_of_92 fm_X2_36_3 (by rw [I6.1]; exact hb.1) I6.2.1 (v := .int (tb 0)) rfl ?_
    refine R_putM dX2_of_95 fm_X2_36_3 ft_3_6 rfl rfl (by rw [I6.1]; exact ha.1) hKa I6.2.2.1 (Nat.le_of_ble_eq_true rfl) ?_
    refine R_aload_n dX2_of_98 rfl ?_
    refine R_aload_n dX2_of_99 rfl ?_
    refine R_getM dX2_of_100 fm_X2_40_3 (by show b < h6.2; rw [I6.1]; exact hb.1) (by rw [hsN (fun z => hD.1 z.symm)]; exact I6.2.1) (v := .int (tb 1)) rfl ?_
    refine R_putM dX2_of_103 fm_X2_40_3 ft_3_7 rfl rfl (by show a < h6.2; rw [I6.1]; exact ha.1) hKa hsS (Nat.le_of_ble_eq_true rfl) ?_
    rw [hss]
    refine R_aload_n dX2_of_106 rfl ?_
    refine R_aload_n dX2_of_107 rfl ?_
    refine R_getM dX2_of_108 fm_X2_43_3 (by show b < h6.2; rw [I6.1]; exact hb.1) (by rw [hsN (fun z => hD.1 z.symm)]; exact I6.2.1) (v := .int (tb 2)) rfl ?_
    refine R_putM dX2_of_111 fm_X2_43_3 ft_3_8 rfl rfl (by show a < h6.2; rw [I6.1]; exact ha.1) hKa hsS (Nat.le_of_ble_eq_true rfl) ?_
    rw [hss]
    refine R_vret dX2_of_114 rfl ⟨rfl, I6.1, hsS, fun p hp' => ?_, fun i h1 h2 => ?_⟩
    · obtain ⟨f, f1, f2⟩ := I6.2.2.2.2.2.1 p hp'
      exact ⟨f, by rw [hsN (hD.2.1 p hp').1]; exact f1, f2⟩
    · rw [hsN h1]
      exact I6.2.2.2.2.2.2 i h1 h2
  exact go hp hI
/-- six rows of noughts are made -/
def six (hp : Hp) : Nat → Hp
  | 0 => hp
  | k + 1 => hnew (six hp k) (rw6 (fun _ => 0))
theorem six_2 (hp : Hp) : ∀ k, (six hp k).2 = hp.2 + k := by
  intro k
  induction k with
  | zero => rfl
  | succ k ih => show (six hp k).2 + 1 = _; rw [ih]; omega
theorem six_o (hp : Hp) {i : Nat} (h : i < hp.2) : ∀ k, (six hp k).1 i = hp.1 i := by
  intro k
  induction k with
  | zero => rfl
  | succ k ih =>
    show (hnew (six hp k) (rw6 (fun _ => 0))).1 i = _
    rw [hnN (by rw [six_2]; omega)]
    exact ih
theorem six_n (hp : Hp) {p : Nat} : ∀ k, p < k → (six hp k).1 (hp.2 + p) = rw6 (fun _ => 0) := by
  intro k
  induction k with
  | zero => intro h; omega
  | succ k ih =>
    intro h
    show (hnew (six hp k) (rw6 (fun _ => 0))).1 (hp.2 + p) = _
    by_cases e : p = k
    · subst e
      have := hnS (hp := six hp p) (e := rw6 (fun _ => 0))
      rw [six_2] at this
      exact this
    · rw [hnN (by rw [six_2]; omega)]
      exact ih (by omega)
theorem ev_stinit (d : Nat) (ha : a < hp.2) (hK : K0 ≤ a) (he : hp.1 a = .inr (3, [.null, .null, .null, .null, .null, .null, .int 0, .int 0, .int 0])) : Ev G l mX2_init (d + 1) 6 36 [.ref a] hp (fun v h => v = none ∧ h = hset (six hp 6) a (stC (fun p => hp.2 + p) (fun _ => 0))) := by
  have hne : ∀ k, a ≠ (six hp k).2 := fun k => by rw [six_2]; omega
  have hlt : ∀ k, a < (six hp k).2 := fun k => by rw [six_2]; omega
  refine Ev.of (by decide) (Nat.le_of_ble_eq_true rfl) ?_
  refine R_aload_n dX2_init_0 rfl ?_
  refine R_objInit dX2_init_1 q261 q155 q156 (Nat.le_of_ble_eq_true rfl) ?_
  refine R_aload_n dX2_init_4 rfl ?_
  refine R_bipush (v := 6) dX2_init_5 (by decide) ?_
  refine R_newp dX2_init_7 (t := 0) rfl q255 (by decide) (N := 6) (by decide) (by decide) (by decide) (by decide) ?_
  refine R_putFM dX2_init_9 fl_X2_9_3 rfl rfl ft_3_0 rfl rfl (hlt 1) hK (by rw [hnN (show a ≠ hp.2 from hne 0)]; exact he) (Nat.le_of_ble_eq_true rfl) ?_
  show RnH _ _ _ _ _ _ _ _ _ _ (hset (six hp 1) a (.inr (3, [.ref (hp.2 + 0), .null, .null, .null, .null, .null, .int 0, .int 0, .int 0]))) _ _
  refine R_aload_n dX2_init_12 rfl ?_
  refine R_bipush (v := 6) dX2_init_13 (by decide) ?_
  refine R_newp dX2_init_15 (t := 0) rfl q255 (by decide) (N := 6) (by decide) (by decide) (by decide) (by decide) ?_
  rw [hnsC (hne 1)]
  refine R_putFM dX2_init_17 fl_X2_15_3 rfl rfl ft_3_1 rfl rfl (hlt 2) hK hsS (Nat.le_of_ble_eq_true rfl) ?_
  rw [hss]
  have e1 : (hset (six hp 1) a (.inr (3, [.ref (hp.2 + 0), .null, .null, .null, .null, .null, .int 0, .int 0, .int 0]))).2 = hp.2 + 1 := six_2 hp 1
  rw [e1]
  show RnH _ _ _ _ _ _ _ _ _ _ (hset (six hp 2) a (.inr (3, [.ref (hp.2 + 0), .ref (hp.2 + 1), .null, .null, .null, .null, .int 0, .int 0, .int 0]))) _ _
  refine R_aload_n dX2_init_20 rfl ?_
  refine R_bipush (v := 6) dX2_init_21 (by decide) ?_
  refine R_newp dX2_init_23 (t := 0) rfl q255 (by decide) (N := 6) (by decide) (by decide) (by decide) (by decide) ?_
  rw [hnsC (hne 2)]
  refine R_putFM dX2_init_25 fl_X2_18_3 rfl rfl ft_3_2 rfl rfl (hlt 3) hK hsS (Nat.le_of_ble_eq_true rfl) ?_
  rw [hss]
  have e2 : (hset (six hp 2) a (.inr (3, [.ref (hp.2 + 0), .ref (hp.2 + 1), .null, .null, .null, .null, .int 0, .int 0, .int 0]))).2 = hp.2 + 2 := six_2 hp 2
  rw [e2]
  show RnH _ _ _ _ _ _ _ _ _ _ (hset (six hp 3) a (.inr (3, [.ref (hp.2 + 0), .ref (hp.2 + 1), .ref (hp.2 + 2), .null, .null, .null, .int 0, .int 0, .int 0]))) _ _
  refine R_aload_n dX2_init_28 rfl ?_
  refine R_bipush (v := 6) dX2_init_29 (by decide) ?_
  refine R_newp dX2_init_31 (t := 0) rfl q255 (by decide) (N := 6) (by decide) (by decide) (by decide) (by decide) ?_
  rw [hnsC (hne 3)]
  refine R_putFM dX2_init_33 fl_X2_21_3 rfl rfl ft_3_3 rfl rfl (hlt 4) hK hsS (Nat.le_of_ble_eq_true rfl) ?_
  rw [hss]
  have e3 : (hset (six hp 3) a (.inr (3, [.ref (hp.2 + 0), .ref (hp.2 + 1), .ref (hp.2 + 2), .null, .null, .null, .int 0, .int 0, .int 0]))).2 = hp.2 + 3 := six_2 hp 3
  rw [e3]
  show RnH _ _ _ _ _ _ _ _ _ _ (hset (six hp 4) a (.inr (3, [.ref (hp.2 + 0), .ref (hp.2 + 1), .ref (hp.2 + 2), .ref (hp.2 + 3), .null, .null, .int 0, .int 0, .int 0]))) _ _
  refine R_aload_n dX2_init_36 rfl ?_
  refine R_bipush (v := 6) dX2_init_37 (by decide) ?_
  refine R_newp dX2_init_39 (t := 0) rfl q255 (by decide) (N := 6) (by decide) (by decide) (by decide) (by decide) ?_
  rw [hnsC (hne 4)]
  refine R_putFM dX2_init_41 fl_X2_24_3 rfl rfl ft_3_4 rfl rfl (hlt 5) hK hsS (Nat.le_of_ble_eq_true rfl) ?_
  rw [hss]
  have e4 : (hset (six hp 4) a (.inr (3, [.ref (hp.2 + 0), .ref (hp.2 + 1), .ref (hp.2 + 2), .ref (hp.2 + 3), .null, .null, .int 0, .int 0, .int 0]))).2 = hp.2 + 4 := six_2 hp 4
  rw [e4]
  show RnH _ _ _ _ _ _ _ _ _ _ (hset (six hp 5) a (.inr (3, [.ref (hp.2 + 0), .ref (hp.2 + 1), .ref (hp.2 + 2), .ref (hp.2 + 3), .ref (hp.2 + 4), .null, .int 0, .int 0, .int 0]))) _ _
  refine R_aload_n dX2_init_44 rfl ?_
  refine R_bipush (v := 6) dX2_init_45 (by decide) ?_
  refine R_newp dX2_init_47 (t := 0) rfl q255 (by decide) (N := 6) (by decide) (by decide) (by decide) (by decide) ?_
  rw [hnsC (hne 5)]
  refine R_putFM dX2_init_49 fl_X2_27_3 rfl rfl ft_3_5 rfl rfl (hlt 6) hK hsS (Nat.le_of_ble_eq_true rfl) ?_
  rw [hss]
  have e5 : (hset (six hp 5) a (.inr (3, [.ref (hp.2 + 0), .ref (hp.2 + 1), .ref (hp.2 + 2), .ref (hp.2 + 3), .ref (hp.2 + 4), .null, .int 0, .int 0, .int 0]))).2 = hp.2 + 5 := six_2 hp 5
  rw [e5]
  show RnH _ _ _ _ _ _ _ _ _ _ (hset (six hp 6) a (.inr (3, [.ref (hp.2 + 0), .ref (hp.2 + 1), .ref (hp.2 + 2), .ref (hp.2 + 3), .ref (hp.2 + 4), .ref (hp.2 + 5), .int 0, .int 0, .int 0]))) _ _
  exact R_vret dX2_init_52 rfl ⟨rfl, rfl⟩
theorem ev_copy (d : Nat) (hb : isSt hp b gb rb tb) (hK : K0 ≤ hp.2) : Ev G l mX0_copy (d + 2) 7 45 [.ref b] hp (fun v h => v = some (.ref hp.2) ∧ h.2 = hp.2 + 7 ∧ (∀ i, i < hp.2 → h.1 i = hp.1 i) ∧ ∃ r, isSt h hp.2 (fun p => hp.2 + 1 + p) r tb ∧ ∀ p, p < 6 → ∀ j, j < 6 → r p j = rb p j) := by
  refine Ev.of (by decide) (Nat.le_of_ble_eq_true rfl) ?_
  refine R_new dX0_copy_0 cn_X0_25 (by decide) (by decide) ?_
  refine R_dup dX0_copy_3 rfl ?_
  refine R_callIN (As := []) dX0_copy_4 ci_X0_27 rfl rfl (Nat.le_of_ble_eq_true rfl) (ev_stinit (a := hp.2) d (by show hp.2 < hp.2 + 1; omega) hK hnS) (by decide) (by decide) (fun v h1 hq => ?_)
  obtain ⟨rfl, rfl⟩ := hq
  generalize hN : hnew hp (.inr (3, [.null, .null, .null, .null, .null, .null, .int 0, .int 0, .int 0])) = h0
  have z0 : h0.2 = hp.2 + 1 := by rw [← hN]; rfl
  have o0 : ∀ i, i < hp.2 → h0.1 i = hp.1 i := fun i hi => by rw [← hN]; exact hnN (by omega)
  rw [z0]
  generalize hH : hset (six h0 6) hp.2 (stC (fun p => hp.2 + 1 + p) (fun _ => 0)) = h1
  have z1 : h1.2 = hp.2 + 7 := by rw [← hH]; show (six h0 6).2 = _; rw [six_2, z0]
  have o1 : ∀ i, i < hp.2 → h1.1 i = hp.1 i := fun i hi => by rw [← hH, hsN (by omega), six_o _ (by omega)]; exact o0 i hi
  have s1 : isSt h1 hp.2 (fun p => hp.2 + 1 + p) (fun _ _ => 0) (fun _ => 0) := by
    refine ⟨by omega, by rw [← hH, hsS], fun p hp' => ⟨by show hp.2 + 1 + p < h1.2; omega, ?_⟩⟩
    show h1.1 (hp.2 + 1 + p) = _
    rw [← hH, hsN (by omega)]
    have := six_n h0 6 hp'
    rw [z0] at this
    exact this
  have b1 : isSt h1 b gb rb tb := ⟨by have := hb.1; omega, by rw [o1 _ hb.1]; exact hb.2.1, fun p hp' => ⟨by have := (hb.2.2 p hp').1; omega, by rw [o1 _ (hb.2.2 p hp').1]; exact (hb.2.2 p hp').2⟩⟩
  have hD : ofD hp.2 b (fun p => hp.2 + 1 + p) gb := by
    have := hb.1
    refine ⟨by omega, fun p hp' => ⟨by dsimp only; omega, by dsimp only; omega, by have := (hb.2.2 p hp').1; omega⟩, fun p q _ _ h => by dsimp only at h; omega, fun p q _ hq => by have := (hb.2.2 q hq).1; dsimp only; omega⟩
  refine R_astore_n dX0_copy_7 (by decide) rfl ?_
  refine R_aload_n dX0_copy_8 rfl ?_
  refine R_aload_n dX0_copy_9 rfl ?_
  refine R_callV (As := [.ref b]) dX0_copy_10 cv_X0_118 rfl rfl (Nat.le_of_ble_eq_true rfl) s1.1 s1.2.1 rfl (ev_of2 d s1 b1 hK (fun p _ => by omega) hD) (by decide) (by decide) (fun v h2 hq => ?_)
  obtain ⟨rfl, w1, w2, w3, w4⟩ := hq
  refine R_aload_n dX0_copy_13 rfl ?_
  refine R_aret dX0_copy_14 rfl (Or.inl ⟨_, rfl⟩) (Or.inr ⟨_, rfl⟩) ⟨rfl, w1.trans z1, fun i hi => ?_, ?_⟩
  · rw [w4 i (by omega) (fun p _ => by omega)]
    exact o1 i hi
  · refine ⟨fun p => if h : p < 6 then Classical.choose (w3 p h) else fun _ => 0, ⟨by omega, w2, fun p hp' => ⟨by show hp.2 + 1 + p < h2.2; omega, ?_⟩⟩, fun p hp' j hj => ?_⟩
    · dsimp only
      rw [dif_pos hp']
      exact (Classical.choose_spec (w3 p hp')).1
    · dsimp only
      rw [dif_pos hp']
      exact (Classical.choose_spec (w3 p hp')).2 j hj
end S1
