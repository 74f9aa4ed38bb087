/-! lists that change (3): removing, clearing, going through -/
set_option maxRecDepth 100000
section L4
variable {G : Wd} {l : Launch} {hp : Hp} {L ed n cap ci : Nat} {mc : Int32} {f : Nat → Option Nat}
theorem vup_n {f : Nat → Option Nat} {i j : Nat} {x : Option Nat} (h : j ≠ i) : va_up f i x j = f j := by unfold va_up; rw [if_neg h]
theorem ev_fast (d : Nat) {i : Nat} (h : isLs hp L mc ed n) (hL : K0 ≤ L) (r1 : K0 ≤ ed) (r2 : ed ≠ L) (r3 : isRw hp ed cap f) (hi : i < n) (hn : n ≤ cap) (hc : cap ≤ 1000) (he : elC hp f n ci) (hci : okEl ci) (heL : ∀ i, i < n → f i ≠ some L) : Ev G l mJ2_fastRemove (d + 1) 0 0 [.ref L, .ref ed, .int (nI i)] hp (fun v hp1 => v = none ∧ ∃ f', hp1 = hset (hset hp ed (rwC cap f')) L (lsC (mc + 1) ed (n - 1)) ∧ ∀ j, j < n - 1 → f' j = if j < i then f j else f (j + 1)) := by
  obtain ⟨q, hq1, hq2⟩ := hci
  have en : nI n - 1 = nI (n - 1) := pk_sub (b := 1) (by omega)
  have ci' : (nI i).toNatClampNeg = i := cl (by omega)
  have cn1 : (nI (n - 1)).toNatClampNeg = n - 1 := cl (by omega)
  have hLe : L ≠ ed := fun z => r2 z.symm
  refine Ev.of (by decide) (Nat.le_of_ble_eq_true rfl) ?_
  refine R_aload_n dJ2_fastRemove_0 rfl ?_
  refine R_dup dJ2_fastRemove_1 rfl ?_
  refine R_getM dJ2_fastRemove_2 fm_J2_63_16 h.1 h.2 (v := .int mc) rfl ?_
  refine R_iconst (v := 1) dJ2_fastRemove_5 (by decide) ?_
  refine R_iadd dJ2_fastRemove_6 ?_
  refine R_putM dJ2_fastRemove_7 fm_J2_63_16 ft_16_0 rfl rfl h.1 hL h.2 (Nat.le_of_ble_eq_true rfl) ?_
  show RnH _ _ _ _ _ _ _ _ _ _ (hset hp L (lsC (mc + 1) ed n)) _ _
  have hr : (hset hp L (lsC (mc + 1) ed n)).1 ed = rwC cap f := by rw [hsN r2]; exact r3.2
  refine R_aload_n dJ2_fastRemove_10 rfl ?_
  refine R_getM dJ2_fastRemove_11 fm_J2_48_16 (hp := hset hp L (lsC (mc + 1) ed n)) h.1 hsS (v := .int (nI n)) rfl ?_
  refine R_iconst (v := 1) dJ2_fastRemove_14 (by decide) ?_
  refine R_isub dJ2_fastRemove_15 ?_
  rw [en]
  refine R_dup dJ2_fastRemove_16 rfl ?_
  refine R_istore_n dJ2_fastRemove_17 (by decide) rfl ?_
  refine R_iload_n dJ2_fastRemove_18 rfl ?_
  -- the end
  have fin : ∀ g : Nat → Option Nat, (∀ j, j < n - 1 → g j = if j < i then f j else f (j + 1)) → RnH [] G l mJ2_fastRemove (d + 1) (fun v hp1 => v = none ∧ ∃ f', hp1 = hset (hset hp ed (rwC cap f')) L (lsC (mc + 1) ed (n - 1)) ∧ ∀ j, j < n - 1 → f' j = if j < i then f j else f (j + 1)) noX 34 [.ref L, .ref ed, .int (nI i), .int (nI (n - 1))] [] (hset (hset hp L (lsC (mc + 1) ed n)) ed (rwC cap g)) 0 0 := by
    intro g hg
    refine R_aload_n dJ2_fastRemove_34 rfl ?_
    refine R_aload_n dJ2_fastRemove_35 rfl ?_
    refine R_iload_n dJ2_fastRemove_36 rfl ?_
    refine R_dup_x1 dJ2_fastRemove_37 rfl rfl ?_
    refine R_putM dJ2_fastRemove_38 fm_J2_48_16 ft_16_2 rfl rfl h.1 hL (by rw [hsN hLe, hsS]) (Nat.le_of_ble_eq_true rfl) ?_
    show RnH _ _ _ _ _ _ _ _ _ _ (hset (hset (hset hp L (lsC (mc + 1) ed n)) ed (rwC cap g)) L (lsC (mc + 1) ed (n - 1))) _ _
    rw [hsc r2, hss]
    refine R_aconst_null dJ2_fastRemove_41 ?_
    refine R_aastN dJ2_fastRemove_42 (t := 4) rfl r3.1 r1 hsS (vin (by omega) (by omega)) ?_
    rw [hss, hsc hLe, cn1]
    refine R_vret dJ2_fastRemove_43 rfl ⟨rfl, _, rfl, fun j hj => ?_⟩
    rw [vup_n (by omega)]
    exact hg j hj
  refine R_icmp_le 34 dJ2_fastRemove_19 (by decide) (fun q => ?_) (fun q => ?_)
  · have e : i = n - 1 := by
      rcases Nat.lt_or_ge i (n - 1) with z | z
      · exact absurd q (nI_ge z (by omega))
      · omega
    have := fin f (fun j hj => by rw [if_pos (by omega)])
    have e9 : hset (hset hp L (lsC (mc + 1) ed n)) ed (rwC cap f) = hset hp L (lsC (mc + 1) ed n) := by
      apply Prod.ext
      · funext j
        show (if j = ed then rwC cap f else (hset hp L (lsC (mc + 1) ed n)).1 j) = _
        by_cases z : j = ed
        · subst z; rw [if_pos rfl, hr]
        · rw [if_neg z]
      · rfl
    rw [e9] at this
    exact this
  · have hlt : i < n - 1 := by
      rcases Nat.lt_or_ge i (n - 1) with z | z
      · exact z
      · exact absurd (nI_le z (by omega)) q
    refine R_aload_n dJ2_fastRemove_22 rfl ?_
    refine R_iload_n dJ2_fastRemove_23 rfl ?_
    refine R_iconst (v := 1) dJ2_fastRemove_24 (by decide) ?_
    refine R_iadd dJ2_fastRemove_25 ?_
    refine R_aload_n dJ2_fastRemove_26 rfl ?_
    refine R_iload_n dJ2_fastRemove_27 rfl ?_
    refine R_iload_n dJ2_fastRemove_28 rfl ?_
    refine R_iload_n dJ2_fastRemove_29 rfl ?_
    refine R_isub dJ2_fastRemove_30 ?_
    rw [nI_1, pk_sub (by omega)]
    have c1 : (nI (i + 1)).toNatClampNeg = i + 1 := cl (by omega)
    have c2 : (nI (n - 1 - i)).toNatClampNeg = n - 1 - i := cl (by omega)
    refine R_copyr dJ2_fastRemove_31 q1082 r3.1 hr r3.1 r1 hr hq1 hq2 ?_ (nI_nneg (by omega)) (nI_nneg (by omega)) (nI_nneg (by omega)) (by rw [c1, c2]; omega) (by rw [ci', c2]; omega) (Nat.le_of_ble_eq_true rfl) ?_
    · intro j hj y hy
      rw [c1] at hy
      rw [c2] at hj
      obtain ⟨w1, fs, w2⟩ := he (i + 1 + j) (by omega) y hy
      exact ⟨w1, fs, by rw [hsN (fun z => heL (i + 1 + j) (by omega) (by rw [hy, z]))]; exact w2⟩
    rw [c1, c2, ci']
    refine fin _ (fun j hj => ?_)
    by_cases z : j < i
    · rw [pk_cpy_out (by omega), if_pos z]
    · rw [pk_cpy_in (by omega) (by omega), if_neg z]
      congr 1
      omega
theorem ev_remove (d : Nat) {i x : Nat} (h : isLs hp L mc ed n) (hL : K0 ≤ L) (r1 : K0 ≤ ed) (r2 : ed ≠ L) (r3 : isRw hp ed cap f) (hi : i < n) (hn : n ≤ cap) (hc : cap ≤ 1000) (he : elC hp f n ci) (hci : okEl ci) (heL : ∀ i, i < n → f i ≠ some L) (hx : f i = some x) : Ev G l mJ2_remove (d + 3) 0 0 [.ref L, .int (nI i)] hp (fun v hp1 => v = some (.ref x) ∧ ∃ f', hp1 = hset (hset hp ed (rwC cap f')) L (lsC (mc + 1) ed (n - 1)) ∧ ∀ j, j < n - 1 → f' j = if j < i then f j else f (j + 1)) := by
  have ci' : (nI i).toNatClampNeg = i := cl (by omega)
  refine Ev.of (by decide) (Nat.le_of_ble_eq_true rfl) ?_
  refine R_iload_n dJ2_remove_0 rfl ?_
  refine R_aload_n dJ2_remove_1 rfl ?_
  refine R_getM dJ2_remove_2 fm_J2_48_16 h.1 h.2 (v := .int (nI n)) rfl ?_
  refine V_callS [.int (nI i), .int (nI n)] dJ2_remove_5 cs_J2_118 rfl rfl (Nat.le_of_ble_eq_true rfl) (stj_ck5 d hi (by omega)) ?_
  refine R_pop dJ2_remove_8 rfl ?_
  refine R_aload_n dJ2_remove_9 rfl ?_
  refine R_getM dJ2_remove_10 fm_J2_9_16 h.1 h.2 (v := .ref ed) rfl ?_
  refine R_astore_n dJ2_remove_13 (by decide) rfl ?_
  refine R_aload_n dJ2_remove_14 rfl ?_
  refine R_iload_n dJ2_remove_15 rfl ?_
  refine R_aald dJ2_remove_16 (t := 4) rfl r3.1 r3.2 (vin (by omega) (by omega)) ?_
  rw [ci', hx]
  refine R_astore_n (x := x) dJ2_remove_17 (by decide) rfl ?_
  refine R_aload_n dJ2_remove_18 rfl ?_
  refine R_aload_n dJ2_remove_19 rfl ?_
  refine R_iload_n dJ2_remove_20 rfl ?_
  refine R_callV (As := [.ref ed, .int (nI i)]) dJ2_remove_21 cv_J2_144 rfl rfl (Nat.le_of_ble_eq_true rfl) h.1 h.2 rfl (ev_fast (d + 1) h hL r1 r2 r3 hi hn hc he hci heL) (Nat.zero_le _) (Nat.zero_le _) (fun v hp1 hq => ?_)
  obtain ⟨rfl, hq⟩ := hq
  refine R_aload_n dJ2_remove_24 rfl ?_
  exact R_aret dJ2_remove_25 rfl (Or.inl ⟨_, rfl⟩) (Or.inr ⟨_, rfl⟩) ⟨rfl, hq⟩
/-- what clearing leaves -/
def clP (hp : Hp) (L ed : Nat) (mc : Int32) (cap : Nat) (f : Nat → Option Nat) (hp1 : Hp) : Prop := (ed = 1 ∧ hp1 = hset hp L (lsC (mc + 1) ed 0)) ∨ ∃ f', K0 ≤ ed ∧ hp1 = hset (hset hp ed (rwC cap f')) L (lsC (mc + 1) ed 0)
theorem ev_clear (d : Nat) (h : isLs hp L mc ed n) (hL : K0 ≤ L) (hr : rowK hp L ed cap f) (hn : n ≤ cap) (hc : cap ≤ 1000) : Ev G l mJ2_clear (d + 1) 0 0 [.ref L] hp (fun v hp1 => v = none ∧ clP hp L ed mc cap f hp1) := by
  refine Ev.of (by decide) (Nat.le_of_ble_eq_true rfl) ?_
  refine R_aload_n dJ2_clear_0 rfl ?_
  refine R_dup dJ2_clear_1 rfl ?_
  refine R_getM dJ2_clear_2 fm_J2_63_16 h.1 h.2 (v := .int mc) rfl ?_
  refine R_iconst (v := 1) dJ2_clear_5 (by decide) ?_
  refine R_iadd dJ2_clear_6 ?_
  refine R_putM dJ2_clear_7 fm_J2_63_16 ft_16_0 rfl rfl h.1 hL h.2 (Nat.le_of_ble_eq_true rfl) ?_
  show RnH _ _ _ _ _ _ _ _ _ _ (hset hp L (lsC (mc + 1) ed n)) _ _
  refine R_aload_n dJ2_clear_10 rfl ?_
  refine R_getM dJ2_clear_11 fm_J2_9_16 (hp := hset hp L (lsC (mc + 1) ed n)) h.1 hsS (v := .ref ed) rfl ?_
  refine R_astore_n dJ2_clear_14 (by decide) rfl ?_
  refine R_aload_n dJ2_clear_15 rfl ?_
  refine R_getM dJ2_clear_16 fm_J2_48_16 (hp := hset hp L (lsC (mc + 1) ed n)) h.1 hsS (v := .int (nI n)) rfl ?_
  refine R_istore_n dJ2_clear_19 (by decide) rfl ?_
  refine R_aload_n dJ2_clear_20 rfl ?_
  refine R_iconst (v := 0) dJ2_clear_21 (by decide) ?_
  refine R_dup_x1 dJ2_clear_22 rfl rfl ?_
  refine R_putM dJ2_clear_23 fm_J2_48_16 ft_16_2 rfl rfl (hp := hset hp L (lsC (mc + 1) ed n)) h.1 hL hsS (Nat.le_of_ble_eq_true rfl) ?_
  show RnH _ _ _ _ _ _ _ _ _ _ (hset (hset hp L (lsC (mc + 1) ed n)) L (lsC (mc + 1) ed 0)) _ _
  rw [hss]
  refine R_istore_n dJ2_clear_26 (by decide) rfl ?_
  rcases hr with ⟨r1, r2⟩ | ⟨r1, r2, r3, r4⟩
  · have e : n = 0 := by omega
    subst e
    refine R_iload_n dJ2_clear_27 rfl ?_
    refine R_iload_n dJ2_clear_28 rfl ?_
    refine R_icmp_ge 42 dJ2_clear_29 (by decide) (fun _ => ?_) (fun q => absurd (by decide) q)
    exact R_vret dJ2_clear_42 rfl ⟨rfl, Or.inl ⟨r1, rfl⟩⟩
  · have hLe : L ≠ ed := fun z => r2 z.symm
    have loop : ∀ m j (g : Nat → Option Nat), j + m = n → RnH [] G l mJ2_clear (d + 1) (fun v hp1 => v = none ∧ clP hp L ed mc cap f hp1) noX 27 [.ref L, .ref ed, .int (nI n), .int (nI j)] [] (hset (hset hp ed (rwC cap g)) L (lsC (mc + 1) ed 0)) 0 0 := by
      intro m
      induction m with
      | zero =>
        intro j g hj
        refine R_iload_n dJ2_clear_27 rfl ?_
        refine R_iload_n dJ2_clear_28 rfl ?_
        refine R_icmp_ge 42 dJ2_clear_29 (by decide) (fun _ => ?_) (fun q => absurd (nI_le (by omega) (by omega)) q)
        exact R_vret dJ2_clear_42 rfl ⟨rfl, Or.inr ⟨g, r1, rfl⟩⟩
      | succ m ih =>
        intro j g hj
        refine R_iload_n dJ2_clear_27 rfl ?_
        refine R_iload_n dJ2_clear_28 rfl ?_
        refine R_icmp_ge 42 dJ2_clear_29 (by decide) (fun q => absurd q (nI_ge (by omega) (by omega))) (fun _ => ?_)
        refine R_aload_n dJ2_clear_32 rfl ?_
        refine R_iload_n dJ2_clear_33 rfl ?_
        refine R_aconst_null dJ2_clear_34 ?_
        refine R_aastN dJ2_clear_35 (t := 4) rfl r3.1 r1 (by rw [hsN r2, hsS]) (vin (show j < cap by omega) (by omega)) ?_
        rw [hsc hLe, hss]
        refine R_iinc (v := nI (j + 1)) dJ2_clear_36 rfl (nI_1 j) (by decide) rfl ?_
        refine R_goto 27 dJ2_clear_39 (by decide) ?_
        exact ih (j + 1) _ (by omega)
    have e9 : hset hp L (lsC (mc + 1) ed 0) = hset (hset hp ed (rwC cap f)) L (lsC (mc + 1) ed 0) := by
      have : hset hp ed (rwC cap f) = hp := by
        apply Prod.ext
        · funext j
          show (if j = ed then rwC cap f else hp.1 j) = _
          by_cases z : j = ed
          · subst z; rw [if_pos rfl, r3.2]
          · rw [if_neg z]
        · rfl
      rw [this]
    rw [e9]
    exact loop n 0 f (by omega)
end L4
