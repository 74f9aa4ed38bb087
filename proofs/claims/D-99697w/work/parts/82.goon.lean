/-! the component's states: a day -/
set_option maxRecDepth 100000
theorem min_l (a b : Int32) : sj_min a b = s8_lesser a b := by
  unfold sj_min s8_lesser
  by_cases h : b < a
  · rw [if_pos h, if_pos (Int32.le_iff_toInt_le.mpr (by rw [Int32.lt_iff_toInt_lt] at h; omega))]
  · rw [if_neg h]
    by_cases q : b ≤ a
    · rw [if_pos q]
      apply Int32.toInt_inj.mp
      rw [Int32.lt_iff_toInt_lt] at h
      rw [Int32.le_iff_toInt_le] at q
      omega
    · rw [if_neg q]
theorem max_g (a b : Int32) : sj_max a b = s8_greater a b := by
  unfold sj_max s8_greater
  by_cases h : a < b
  · rw [if_pos h, if_pos (Int32.le_iff_toInt_le.mpr (by rw [Int32.lt_iff_toInt_lt] at h; omega))]
  · rw [if_neg h]
    by_cases q : a ≤ b
    · rw [if_pos q]
      apply Int32.toInt_inj.mp
      rw [Int32.lt_iff_toInt_lt] at h
      rw [Int32.le_iff_toInt_le] at q
      omega
    · rw [if_neg q]
/-- a day of one man and his coat -/
def cg1 (grows : Nat → Int32) (t : Int32) (m : Nat) (v : Nat → Int32) : Nat → Int32 :=
  if 0 ≤ v (6 + m) then
    upd (upd (upd (upd v m (s8_lesser 99 (v m + grows m))) (30 + (v (6 + m)).toNatClampNeg) (s8_lesser 99 (v (30 + (v (6 + m)).toNatClampNeg) + 1))) (18 + (v (6 + m)).toNatClampNeg) (s8_greater 0 (v (18 + (v (6 + m)).toNatClampNeg) - t))) (12 + (v (6 + m)).toNatClampNeg) (s8_greater 0 (v (12 + (v (6 + m)).toNatClampNeg) - t))
  else upd v m (s8_lesser 99 (v m + grows m))
def cgo (grows : Nat → Int32) (t : Int32) (v : Nat → Int32) (n : Nat) : Nat → Int32 := acc8 (cg1 grows t) v n
/-- the same, place by place -/
def cgf (grows : Nat → Int32) (t : Int32) (v : Nat → Int32) (n k j : Nat) : Int32 :=
  if j < 6 then (if j < n then s8_lesser 99 (v j + grows j) else v j) else if j < 12 then v j
  else if j < 18 then (if 0 ≤ wearer8 v (nI (j - 12)) k then s8_greater 0 (v j - t) else v j)
  else if j < 24 then (if 0 ≤ wearer8 v (nI (j - 18)) k then s8_greater 0 (v j - t) else v j)
  else if j < 30 then v j
  else if j < 36 then (if 0 ≤ wearer8 v (nI (j - 30)) k then s8_lesser 99 (v j + 1) else v j) else v j
theorem nI_n3 {a b : Nat} (ha : a < 1000) (hb : b < 1000) (h : a ≠ b) : nI a ≠ nI b := fun q => h ((nI_eq (by omega) (by omega)).mp q)
theorem neg1_ne {b : Nat} (hb : b < 1000) : (-1 : Int32) ≠ nI b := fun q => absurd (show (-1 : Int32) < 0 by decide) (by rw [q]; exact nI_nneg (by omega))
theorem wearer_s (v : Nat → Int32) (c : Int32) (n : Nat) : wearer8 v c (n + 1) = if v (6 + n) = c then nI n else wearer8 v c n := rfl
theorem wearer_neg {v : Nat → Int32} {c : Int32} {n : Nat} (h : ∀ o, o < n → v (6 + o) ≠ c) : ¬ 0 ≤ wearer8 v c n := by
  rw [wearer_no h]
  decide
theorem cgo_at {grows v : Nat → Int32} {t : Int32} {nm nc : Nat} (h6 : nm ≤ 6) (hc6 : nc ≤ 6) (hW : okW v nm nc) (hu : unq v nm) : ∀ n, n ≤ nm → ∀ j, cgo grows t v n j = cgf grows t v n n j := by
  intro n
  induction n with
  | zero =>
    intro _ j
    show v j = _
    unfold cgf
    have hw : ∀ c, ¬ 0 ≤ wearer8 v c 0 := fun c => by show ¬ (0 : Int32) ≤ -1; decide
    rw [if_neg (hw _), if_neg (hw _), if_neg (hw _)]
    (repeat' split) <;> first | rfl | omega
  | succ n ih =>
    intro hn j
    have ih' := ih (by omega)
    show cg1 grows t n (cgo grows t v n) j = _
    have e6 : cgo grows t v n (6 + n) = v (6 + n) := by
      rw [ih' (6 + n)]
      unfold cgf
      rw [if_neg (by omega), if_pos (by omega)]
    have en : cgo grows t v n n = v n := by
      rw [ih' n]
      unfold cgf
      rw [if_pos (by omega), if_neg (by omega)]
    rcases hW n (by omega) with h | ⟨c0, hc0, h⟩
    · -- he wears nothing
      have hneg : ¬ (0 : Int32) ≤ -1 := by decide
      unfold cg1
      rw [e6, h, if_neg hneg, en]
      have hwr : ∀ c, c < 1000 → wearer8 v (nI c) (n + 1) = wearer8 v (nI c) n := fun c hc => by rw [wearer_s, if_neg (by rw [h]; exact neg1_ne hc)]
      by_cases ej : j = n
      · subst ej
        rw [upd_s]
        unfold cgf
        rw [if_pos (by omega), if_pos (by omega)]
      · rw [upd_n ej, ih' j]
        unfold cgf
        by_cases j36 : j < 36
        · rw [hwr (j - 12) (by omega), hwr (j - 18) (by omega), hwr (j - 30) (by omega)]
          by_cases j6 : j < 6
          · rw [if_pos j6, if_pos j6]
            by_cases q : j < n
            · rw [if_pos q, if_pos (by omega)]
            · rw [if_neg q, if_neg (by omega)]
          · rw [if_neg j6, if_neg j6]
        · have n6 : ¬ j < 6 := by omega
          have n12 : ¬ j < 12 := by omega
          have n18 : ¬ j < 18 := by omega
          have n24 : ¬ j < 24 := by omega
          have n30 : ¬ j < 30 := by omega
          simp only [if_neg n6, if_neg n12, if_neg n18, if_neg n24, if_neg n30, if_neg j36]
    · -- he wears c0
      have hno : ¬ 0 ≤ wearer8 v (nI c0) n := wearer_neg (fun o ho he => by
        have := hu n o (by omega) (by omega) (by rw [h]; exact nI_pos' (by omega)) (by rw [h, he])
        omega)
      have hyes : 0 ≤ wearer8 v (nI c0) (n + 1) := by
        rw [wearer_s, if_pos h]
        exact nI_pos' (by omega)
      have hwr : ∀ c, c < 1000 → c ≠ c0 → wearer8 v (nI c) (n + 1) = wearer8 v (nI c) n := fun c hc hne => by rw [wearer_s, if_neg (by rw [h]; exact nI_n3 (by omega) hc (Ne.symm hne))]
      have u30 : cgo grows t v n (30 + c0) = v (30 + c0) := by
        rw [ih']
        unfold cgf
        rw [if_neg (by omega), if_neg (by omega), if_neg (by omega), if_neg (by omega), if_neg (by omega), if_pos (by omega), show 30 + c0 - 30 = c0 by omega, if_neg hno]
      have u18 : cgo grows t v n (18 + c0) = v (18 + c0) := by
        rw [ih']
        unfold cgf
        rw [if_neg (by omega), if_neg (by omega), if_neg (by omega), if_pos (by omega), show 18 + c0 - 18 = c0 by omega, if_neg hno]
      have u12 : cgo grows t v n (12 + c0) = v (12 + c0) := by
        rw [ih']
        unfold cgf
        rw [if_neg (by omega), if_neg (by omega), if_pos (by omega), show 12 + c0 - 12 = c0 by omega, if_neg hno]
      have hpos : (0 : Int32) ≤ nI c0 := nI_pos' (by omega)
      unfold cg1
      rw [e6, h, if_pos hpos, en, cl (by omega), u30, u18, u12]
      by_cases e1 : j = 12 + c0
      · subst e1
        rw [upd_s]
        unfold cgf
        rw [if_neg (by omega), if_neg (by omega), if_pos (by omega), show 12 + c0 - 12 = c0 by omega, if_pos hyes]
      rw [upd_n e1]
      by_cases e2 : j = 18 + c0
      · subst e2
        rw [upd_s]
        unfold cgf
        rw [if_neg (by omega), if_neg (by omega), if_neg (by omega), if_pos (by omega), show 18 + c0 - 18 = c0 by omega, if_pos hyes]
      rw [upd_n e2]
      by_cases e3 : j = 30 + c0
      · subst e3
        rw [upd_s]
        unfold cgf
        rw [if_neg (by omega), if_neg (by omega), if_neg (by omega), if_neg (by omega), if_neg (by omega), if_pos (by omega), show 30 + c0 - 30 = c0 by omega, if_pos hyes]
      rw [upd_n e3]
      by_cases ej : j = n
      · subst ej
        rw [upd_s]
        unfold cgf
        rw [if_pos (by omega), if_pos (by omega)]
      rw [upd_n ej, ih' j]
      unfold cgf
      by_cases j6 : j < 6
      · rw [if_pos j6, if_pos j6]
        by_cases q : j < n
        · rw [if_pos q, if_pos (by omega)]
        · rw [if_neg q, if_neg (by omega)]
      rw [if_neg j6, if_neg j6]
      by_cases j12 : j < 12
      · rw [if_pos j12, if_pos j12]
      rw [if_neg j12, if_neg j12]
      by_cases j18 : j < 18
      · rw [if_pos j18, if_pos j18, hwr (j - 12) (by omega) (by omega)]
      rw [if_neg j18, if_neg j18]
      by_cases j24 : j < 24
      · rw [if_pos j24, if_pos j24, hwr (j - 18) (by omega) (by omega)]
      rw [if_neg j24, if_neg j24]
      by_cases j30 : j < 30
      · rw [if_pos j30, if_pos j30]
      rw [if_neg j30, if_neg j30]
      by_cases j36 : j < 36
      · rw [if_pos j36, if_pos j36, hwr (j - 30) (by omega) (by omega)]
      rw [if_neg j36, if_neg j36]
/-! the twin's day, place by place -/
theorem gd1_at {grows v : Nat → Int32} : ∀ (n j : Nat), gd1 grows v n j = if j < n then s8_lesser 99 (v j + grows j) else v j := by
  intro n
  induction n with
  | zero => intro j; rw [if_neg (by omega)]; rfl
  | succ n ih =>
    intro j
    show upd (gd1 grows v n) n (s8_lesser 99 (gd1 grows v n n + grows n)) j = _
    by_cases e : j = n
    · subst e
      rw [upd_s, if_pos (by omega), ih, if_neg (by omega)]
    · rw [upd_n e, ih]
      by_cases q : j < n
      · rw [if_pos q, if_pos (by omega)]
      · rw [if_neg q, if_neg (by omega)]
theorem wearer_congr {u v : Nat → Int32} {c : Int32} : ∀ {n : Nat}, (∀ o, o < n → u (6 + o) = v (6 + o)) → wearer8 u c n = wearer8 v c n := by
  intro n
  induction n with
  | zero => intro _; rfl
  | succ n ih =>
    intro h
    rw [wearer_s, wearer_s, h n (by omega), ih (fun o ho => h o (by omega))]
theorem gd2_at {t : Int32} {nm : Nat} {u : Nat → Int32} (h6 : nm ≤ 6) : ∀ k, k ≤ 6 → ∀ j, gd2 t nm u k j = if j < 12 then u j
    else if j < 18 then (if j - 12 < k ∧ 0 ≤ wearer8 u (nI (j - 12)) nm then s8_greater 0 (u j - t) else u j)
    else if j < 24 then (if j - 18 < k ∧ 0 ≤ wearer8 u (nI (j - 18)) nm then s8_greater 0 (u j - t) else u j)
    else if j < 30 then u j
    else if j < 36 then (if j - 30 < k ∧ 0 ≤ wearer8 u (nI (j - 30)) nm then s8_lesser 99 (u j + 1) else u j) else u j := by
  intro k
  induction k with
  | zero =>
    intro _ j
    show u j = _
    have hz : ∀ (a : Nat) (p : Prop), ¬ (a < 0 ∧ p) := fun a p q => absurd q.1 (by omega)
    simp only [if_neg (hz _ _)]
    (repeat' split) <;> rfl
  | succ k ih =>
    intro hk j
    have ih' := ih (by omega)
    have hw : wearer8 (gd2 t nm u k) (nI k) nm = wearer8 u (nI k) nm := wearer_congr (fun o ho => by rw [ih', if_pos (by omega)])
    rw [gd2_s, hw]
    have hpq : ∀ (a : Nat) (p : Prop), a ≠ k → ((a < k + 1 ∧ p) ↔ (a < k ∧ p)) := fun a p ha => ⟨fun q => ⟨by omega, q.2⟩, fun q => ⟨by omega, q.2⟩⟩
    by_cases hyes : 0 ≤ wearer8 u (nI k) nm
    · rw [if_pos hyes]
      have u30 : gd2 t nm u k (30 + k) = u (30 + k) := by
        rw [ih', if_neg (by omega), if_neg (by omega), if_neg (by omega), if_neg (by omega), if_pos (by omega), if_neg (fun q => absurd q.1 (by omega))]
      have u18 : gd2 t nm u k (18 + k) = u (18 + k) := by
        rw [ih', if_neg (by omega), if_neg (by omega), if_pos (by omega), if_neg (fun q => absurd q.1 (by omega))]
      have u12 : gd2 t nm u k (12 + k) = u (12 + k) := by
        rw [ih', if_neg (by omega), if_pos (by omega), if_neg (fun q => absurd q.1 (by omega))]
      unfold gdc
      rw [upd_n (show 18 + k ≠ 12 + k by omega), upd_n (show 18 + k ≠ 30 + k by omega), upd_n (show 12 + k ≠ 30 + k by omega), u30, u18, u12]
      by_cases e2 : j = 18 + k
      · subst e2
        rw [upd_s, if_neg (by omega), if_neg (by omega), if_pos (by omega), show 18 + k - 18 = k by omega, if_pos ⟨by omega, hyes⟩]
      rw [upd_n e2]
      by_cases e1 : j = 12 + k
      · subst e1
        rw [upd_s, if_neg (by omega), if_pos (by omega), show 12 + k - 12 = k by omega, if_pos ⟨by omega, hyes⟩]
      rw [upd_n e1]
      by_cases e3 : j = 30 + k
      · subst e3
        rw [upd_s, if_neg (by omega), if_neg (by omega), if_neg (by omega), if_neg (by omega), if_pos (by omega), show 30 + k - 30 = k by omega, if_pos ⟨by omega, hyes⟩]
      rw [upd_n e3, ih' j]
      by_cases j12 : j < 12
      · rw [if_pos j12, if_pos j12]
      rw [if_neg j12, if_neg j12]
      by_cases j18 : j < 18
      · rw [if_pos j18, if_pos j18]
        simp only [hpq (j - 12) _ (by omega)]
      rw [if_neg j18, if_neg j18]
      by_cases j24 : j < 24
      · rw [if_pos j24, if_pos j24]
        simp only [hpq (j - 18) _ (by omega)]
      rw [if_neg j24, if_neg j24]
      by_cases j30 : j < 30
      · rw [if_pos j30, if_pos j30]
      rw [if_neg j30, if_neg j30]
      by_cases j36 : j < 36
      · rw [if_pos j36, if_pos j36]
        simp only [hpq (j - 30) _ (by omega)]
      rw [if_neg j36, if_neg j36]
    · rw [if_neg hyes, ih' j]
      have hz : ∀ a, (a < k + 1 ∧ 0 ≤ wearer8 u (nI a) nm) ↔ (a < k ∧ 0 ≤ wearer8 u (nI a) nm) := fun a => ⟨fun q => ⟨by
        by_cases e : a = k
        · subst e; exact absurd q.2 hyes
        · omega, q.2⟩, fun q => ⟨by omega, q.2⟩⟩
      simp only [hz]
theorem wearer_out {v : Nat → Int32} {nm nc c : Nat} (hW : okW v nm nc) (hc6 : nc ≤ 6) (hc : nc ≤ c) (hc2 : c < 1000) : ¬ 0 ≤ wearer8 v (nI c) nm := wearer_neg (fun o ho he => by
  rcases hW o ho with h | ⟨c1, h1, h⟩
  · rw [h] at he; exact neg1_ne hc2 he
  · rw [h] at he; exact nI_n3 (by omega) hc2 (by omega) he)
/-- the two ways of a day lead to the same -/
theorem cgo_gd {grows v : Nat → Int32} {t : Int32} {nm nc : Nat} (h6 : nm ≤ 6) (hc6 : nc ≤ 6) (hW : okW v nm nc) (hu : unq v nm) : cgo grows t v nm = gd2 t nm (gd1 grows v nm) nc := by
  funext j
  rw [cgo_at h6 hc6 hW hu nm (Nat.le_refl _), gd2_at h6 nc hc6]
  have hg : ∀ j, 6 ≤ j → gd1 grows v nm j = v j := fun j hj => gd1_out nm j (by omega)
  have hw : ∀ c, wearer8 (gd1 grows v nm) c nm = wearer8 v c nm := fun c => wearer_congr (fun o ho => hg _ (by omega))
  have hin : ∀ c, c < 1000 → ((c < nc ∧ 0 ≤ wearer8 v (nI c) nm) ↔ 0 ≤ wearer8 v (nI c) nm) := fun c hc => ⟨fun q => q.2, fun q => ⟨by
    by_cases e : c < nc
    · exact e
    · exact absurd q (wearer_out hW hc6 (by omega) hc), q⟩⟩
  unfold cgf
  simp only [hw]
  by_cases j6 : j < 6
  · rw [if_pos j6, if_pos (show j < 12 by omega), gd1_at]
  rw [if_neg j6]
  by_cases j12 : j < 12
  · rw [if_pos j12, if_pos j12, hg j (by omega)]
  rw [if_neg j12, if_neg j12, hg j (by omega)]
  by_cases j18 : j < 18
  · rw [if_pos j18, if_pos j18]
    simp only [hin (j - 12) (by omega)]
  rw [if_neg j18, if_neg j18]
  by_cases j24 : j < 24
  · rw [if_pos j24, if_pos j24]
    simp only [hin (j - 18) (by omega)]
  rw [if_neg j24, if_neg j24]
  by_cases j30 : j < 30
  · rw [if_pos j30, if_pos j30]
  rw [if_neg j30, if_neg j30]
  by_cases j36 : j < 36
  · rw [if_pos j36, if_pos j36]
    simp only [hin (j - 30) (by omega)]
  rw [if_neg j36, if_neg j36]
