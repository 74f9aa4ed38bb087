/-! lists that change (2) -/
set_option maxRecDepth 100000
section L2
variable {hh : List (Nat × Nat × Nat × Nat)} {G : Wd} {l : Launch} {M : MD} {d : Nat} {P : Option Value → Hp → Prop} {X : Nat → Hp → Prop} {pc : Nat} {ls st : List Value} {hp : Hp} {c k : Nat}
theorem R_acmp_eq {x y : Value} {off : Int} (hx : isRv x) (hy : isRv y) (hxy : ∀ a b, x = .ref a → y = .ref b → G.1 a = G.1 b → a = b) (tgt : Nat) (hd : decode M.2.1 pc = .ok (.if_acmp .eq off, 3)) (ht : (pc : Int) + off = (tgt : Int)) (kt : x = y → RnH hh G l M d P X tgt ls st hp c k) (kf : ¬ x = y → RnH hh G l M d P X (pc + 3) ls st hp c k) : RnH hh G l M d P X pc ls (y :: x :: st) hp c k := by
  intro p e s m args below meth cd mc ms H locs cells slots la C g S L h1 h2
  have ex : cv G x = va_rf ((rfO x).map G.1) := by rcases hx with rfl | ⟨a, rfl⟩ <;> rfl
  have ey : cv G y = va_rf ((rfO y).map G.1) := by rcases hy with rfl | ⟨a, rfl⟩ <;> rfl
  have hiff : (rfO x).map G.1 = (rfO y).map G.1 ↔ x = y := by
    constructor
    · intro h
      rcases hx with rfl | ⟨a, rfl⟩
      · rcases hy with rfl | ⟨b, rfl⟩
        · rfl
        · cases h
      · rcases hy with rfl | ⟨b, rfl⟩
        · cases h
        · have h' : G.1 a = G.1 b := Option.some.inj h
          rw [hxy a b rfl rfl h']
    · intro h; rw [h]
  show W p l e _ s m args below meth cd H locs cells slots _ (F0 m pc la (cv G y :: cv G x :: st.map (cv G)))
  rw [ex, ey]
  exact lv_acmp_eq C.1 C.2.1 hd ht (fun q => kt (hiff.mp q) p e s m args below meth cd mc ms H locs cells slots la C g S L h1 h2) (fun q => kf (fun z => q (hiff.mpr z)) p e s m args below meth cd mc ms H locs cells slots la C g S L h1 h2)
end L2
theorem hnn {hp : Hp} {e e' : va_E} : hset (hnew hp e) hp.2 e' = hnew hp e' := by
  apply Prod.ext
  · funext i
    show (if i = hp.2 then e' else if i = hp.2 then e else hp.1 i) = if i = hp.2 then e' else hp.1 i
    by_cases h : i = hp.2
    · rw [if_pos h, if_pos h]
    · rw [if_neg h, if_neg h, if_neg h]
  · rfl
abbrev lsC (mc : Int32) (ed n : Nat) : va_E := .inr (16, [.int mc, .ref ed, .int (nI n)])
/-- a list's row: the empty constant, or a row of its own -/
def rowK (hp : Hp) (L ed cap : Nat) (f : Nat → Option Nat) : Prop := (ed = 1 ∧ cap = 0) ∨ (K0 ≤ ed ∧ ed ≠ L ∧ isRw hp ed cap f ∧ 0 < cap)
section L3
variable {G : Wd} {l : Launch} {hp : Hp} {L ed n cap ci : Nat} {mc : Int32} {f : Nat → Option Nat}
/-- what growing leaves -/
def grP (hp : Hp) (L : Nat) (mc : Int32) (n cap : Nat) (f : Nat → Option Nat) (v : Option Value) (hp1 : Hp) : Prop := v = some (.ref hp.2) ∧ ∃ N f', hp1 = hset (hnew hp (rwC N f')) L (lsC mc hp.2 n) ∧ n < N ∧ N ≤ 10 + 2 * cap ∧ ∀ i, i < n → f' i = f i
theorem ev_grow2 (d : Nat) (h : isLs hp L mc ed n) (hL : K0 ≤ L) (hr : rowK hp L ed cap f) (hn : n = cap) (hc : cap ≤ 100) (he : elC hp f n ci) (hci : okEl ci) (hK : K0 ≤ hp.2) : Ev G l mJ2_grow_2 (d + 3) 1 (10 + 2 * cap) [.ref L, .int (nI (n + 1))] hp (grP hp L mc n cap f) := by
  have hLne : L ≠ hp.2 := fun e => by have := h.1; omega
  have hL1 : L < hp.2 + 1 := by have := h.1; omega
  refine Ev.of (by decide) (Nat.le_of_ble_eq_true rfl) ?_
  refine R_aload_n dJ2_grow_2_0 rfl ?_
  refine R_getM dJ2_grow_2_1 fm_J2_9_16 h.1 h.2 (v := .ref ed) rfl ?_
  rcases hr with ⟨rfl, rfl⟩ | ⟨r1, r2, r3, r4⟩
  · refine R_alenE dJ2_grow_2_4 ?_
    refine R_istore_n dJ2_grow_2_5 (by decide) rfl ?_
    refine R_iload_n dJ2_grow_2_6 rfl ?_
    refine R_if_gt 20 dJ2_grow_2_7 (by decide) (fun q => absurd q (by decide)) (fun _ => ?_)
    refine R_aload_n dJ2_grow_2_10 rfl ?_
    refine R_getM dJ2_grow_2_11 fm_J2_9_16 h.1 h.2 (v := .ref 1) rfl ?_
    refine R_getsE dJ2_grow_2_14 q175 ?_
    refine R_acmp_eq (Or.inr ⟨_, rfl⟩) (Or.inr ⟨_, rfl⟩) (fun a b ha hb _ => by cases ha; cases hb; rfl) 45 dJ2_grow_2_17 (by decide) (fun _ => ?_) (fun q => absurd rfl q)
    refine R_aload_n dJ2_grow_2_45 rfl ?_
    refine R_bipush (v := 10) dJ2_grow_2_46 (by decide) ?_
    refine R_iload_n dJ2_grow_2_48 rfl ?_
    refine R_mmax dJ2_grow_2_49 q866 (Nat.le_of_ble_eq_true rfl) ?_
    have e10 : sj_max 10 (nI (n + 1)) = nI 10 := by subst hn; decide
    rw [e10]
    refine R_newr dJ2_grow_2_52 (t := 4) ⟨rfl, by decide⟩ q867 (by decide) (N := 10) (by decide) (by decide) (Nat.le_refl _) (by omega) ?_
    refine R_dup_x1 dJ2_grow_2_55 rfl rfl ?_
    refine R_putM dJ2_grow_2_56 fm_J2_9_16 ft_16_1 rfl rfl hL1 hL (by rw [hnN hLne]; exact h.2) (Nat.le_of_ble_eq_true rfl) ?_
    refine R_aret dJ2_grow_2_59 rfl (Or.inr ⟨_, rfl⟩) (Or.inr ⟨_, rfl⟩) ⟨rfl, 10, _, rfl, by omega, by omega, fun i hi => absurd hi (by omega)⟩
  · refine R_alen dJ2_grow_2_4 (t := 4) (by decide) r3.1 r3.2 ?_
    refine R_istore_n dJ2_grow_2_5 (by decide) rfl ?_
    refine R_iload_n dJ2_grow_2_6 rfl ?_
    refine R_if_gt 20 dJ2_grow_2_7 (by decide) (fun _ => ?_) (fun q => absurd (nI_lt (a := 0) r4 (by omega)) q)
    refine R_iload_n dJ2_grow_2_20 rfl ?_
    refine R_iload_n dJ2_grow_2_21 rfl ?_
    refine R_iload_n dJ2_grow_2_22 rfl ?_
    refine R_isub dJ2_grow_2_23 ?_
    refine R_iload_n dJ2_grow_2_24 rfl ?_
    refine R_iconst (v := 1) dJ2_grow_2_25 (by decide) ?_
    refine R_ishr dJ2_grow_2_26 ?_
    have e1 : nI (n + 1) - nI cap = nI 1 := by
      subst hn
      rw [pk_sub (by omega), Nat.add_sub_cancel_left]
    have e2 : nI cap >>> ((1 : Int32) &&& 31) = nI (cap / 2) := shr1 ⟨cap, by omega⟩
    rw [e1, e2]
    generalize hN : cap + max 1 (cap / 2) = N
    refine V_callS [.int (nI cap), .int (nI 1), .int (nI (cap / 2))] (r := some (.int (nI N))) dJ2_grow_2_27 cs_J2_73 rfl rfl (Nat.le_of_ble_eq_true rfl) (by rw [← hN]; exact stj_len (d + 1) r4 (by omega) (by omega) (by omega)) ?_
    refine R_istore_n dJ2_grow_2_30 (by decide) rfl ?_
    refine R_aload_n dJ2_grow_2_31 rfl ?_
    refine R_aload_n dJ2_grow_2_32 rfl ?_
    refine R_getM dJ2_grow_2_33 fm_J2_9_16 h.1 h.2 (v := .ref ed) rfl ?_
    refine R_iload_n dJ2_grow_2_36 rfl ?_
    refine R_callS (As := [.ref ed, .int (nI N)]) dJ2_grow_2_37 cs_J2_66 rfl rfl (Nat.le_of_ble_eq_true rfl) (ev_copyOf d r3 (by rw [← hn]; exact he) hci (by omega) (by omega) hK) (Nat.le_refl _) (by omega) (fun v hp1 hq => ?_)
    obtain ⟨rfl, rfl⟩ := hq
    rw [hnn]
    refine R_dup_x1 dJ2_grow_2_40 rfl rfl ?_
    refine R_putM dJ2_grow_2_41 fm_J2_9_16 ft_16_1 rfl rfl hL1 hL (by rw [hnN hLne]; exact h.2) (Nat.le_of_ble_eq_true rfl) ?_
    refine R_aret dJ2_grow_2_44 rfl (Or.inr ⟨_, rfl⟩) (Or.inr ⟨_, rfl⟩) ⟨rfl, N, _, rfl, by omega, by omega, fun i hi => ?_⟩
    rw [pk_cpy_in (Nat.zero_le _) (by omega), Nat.zero_add, Nat.sub_zero]
theorem ev_grow (d : Nat) (h : isLs hp L mc ed n) (hL : K0 ≤ L) (hr : rowK hp L ed cap f) (hn : n = cap) (hc : cap ≤ 100) (he : elC hp f n ci) (hci : okEl ci) (hK : K0 ≤ hp.2) : Ev G l mJ2_grow (d + 4) 1 (10 + 2 * cap) [.ref L] hp (grP hp L mc n cap f) := by
  refine Ev.of (by decide) (Nat.le_of_ble_eq_true rfl) ?_
  refine R_aload_n dJ2_grow_0 rfl ?_
  refine R_aload_n dJ2_grow_1 rfl ?_
  refine R_getM dJ2_grow_2 fm_J2_48_16 h.1 h.2 (v := .int (nI n)) rfl ?_
  refine R_iconst (v := 1) dJ2_grow_5 (by decide) ?_
  refine R_iadd dJ2_grow_6 ?_
  rw [nI_1]
  refine R_callV (As := [.int (nI (n + 1))]) dJ2_grow_7 cv_J2_69 rfl rfl (Nat.le_of_ble_eq_true rfl) h.1 h.2 rfl (ev_grow2 d h hL hr hn hc he hci hK) (Nat.le_refl _) (Nat.le_refl _) (fun v hp1 hq => ?_)
  obtain ⟨rfl, hq⟩ := hq
  exact R_aret dJ2_grow_10 rfl (Or.inr ⟨_, rfl⟩) (Or.inr ⟨_, rfl⟩) ⟨rfl, hq⟩
/-- what adding leaves: the row as it was, longer by one; or a new one -/
def adP (hp : Hp) (L ed : Nat) (mc : Int32) (n cap : Nat) (f : Nat → Option Nat) (x : Nat) (hp1 : Hp) : Prop :=
  (n < cap ∧ K0 ≤ ed ∧ hp1 = hset (hset hp ed (rwC cap (va_up f n (some x)))) L (lsC mc ed (n + 1))) ∨
  (n = cap ∧ ∃ N f', hp1 = hset (hnew hp (rwC N f')) L (lsC mc hp.2 (n + 1)) ∧ n < N ∧ N ≤ 10 + 2 * cap ∧ (∀ i, i < n → f' i = f i) ∧ f' n = some x)
theorem ev_add2 (d : Nat) {x : Nat} {fs : List Value} (h : isLs hp L mc ed n) (hL : K0 ≤ L) (hr : rowK hp L ed cap f) (hn : n ≤ cap) (hc : cap ≤ 100) (he : elC hp f n ci) (hci : okEl ci) (hK : K0 ≤ hp.2) (hx : x < hp.2) (hxe : hp.1 x = .inr (ci, fs)) (hxL : x ≠ L) : Ev G l mJ2_add_2 (d + 5) 1 (10 + 2 * cap) [.ref L, .ref x, .ref ed, .int (nI n)] hp (fun v hp1 => v = none ∧ adP hp L ed mc n cap f x hp1) := by
  have hLne : L ≠ hp.2 := fun e => by have := h.1; omega
  have hL1 : L < hp.2 + 1 := by have := h.1; omega
  have hcn : (nI n).toNatClampNeg = n := cl (by omega)
  obtain ⟨q, hq1, hq2⟩ := hci
  refine Ev.of (by decide) (Nat.le_of_ble_eq_true rfl) ?_
  refine R_iload_n dJ2_add_2_0 rfl ?_
  refine R_aload_n dJ2_add_2_1 rfl ?_
  have grow : n = cap → RnH [] G l mJ2_add_2 (d + 5) (fun v hp1 => v = none ∧ adP hp L ed mc n cap f x hp1) noX 6 [.ref L, .ref x, .ref ed, .int (nI n)] [] hp 1 (10 + 2 * cap) := by
    intro e
    refine R_aload_n dJ2_add_2_6 rfl ?_
    refine R_callV (As := []) dJ2_add_2_7 cv_J2_129 rfl rfl (Nat.le_of_ble_eq_true rfl) h.1 h.2 rfl (ev_grow d h hL hr e hc he ⟨q, hq1, hq2⟩ hK) (Nat.le_refl _) (Nat.le_refl _) (fun v hp1 hq => ?_)
    obtain ⟨rfl, N, f', rfl, n1, n2, n3⟩ := hq
    refine R_astore_n dJ2_add_2_10 (by decide) rfl ?_
    refine R_aload_n dJ2_add_2_11 rfl ?_
    refine R_iload_n dJ2_add_2_12 rfl ?_
    refine R_aload_n dJ2_add_2_13 rfl ?_
    have c1 : (hset (hnew hp (rwC N f')) L (lsC mc hp.2 n)).1 hp.2 = rwC N f' := by rw [hsN (fun e => hLne e.symm), hnS]
    have c2 : (hset (hnew hp (rwC N f')) L (lsC mc hp.2 n)).1 x = .inr (ci, fs) := by rw [hsN hxL, hnN (by omega)]; exact hxe
    refine R_aast dJ2_add_2_14 (t := 4) rfl (by show hp.2 < hp.2 + 1; omega) hK c1 (by show x < hp.2 + 1; omega) c2 hq1 (Or.inr hq2) (by have := vin n1 (show N < 1000000 by omega); exact this) ?_
    rw [hcn, hsc hLne, hnn]
    refine R_aload_n dJ2_add_2_15 rfl ?_
    refine R_iload_n dJ2_add_2_16 rfl ?_
    refine R_iconst (v := 1) dJ2_add_2_17 (by decide) ?_
    refine R_iadd dJ2_add_2_18 ?_
    rw [nI_1]
    refine R_putM dJ2_add_2_19 fm_J2_48_16 ft_16_2 rfl rfl hL1 hL hsS (Nat.le_of_ble_eq_true rfl) ?_
    rw [hss]
    refine R_vret dJ2_add_2_22 rfl ⟨rfl, Or.inr ⟨e, N, _, rfl, n1, n2, fun i hi => ?_, ?_⟩⟩
    · unfold va_up
      rw [if_neg (by omega)]
      exact n3 i hi
    · unfold va_up
      rw [if_pos rfl]
  rcases hr with ⟨r1, r2⟩ | ⟨r1, r2, r3, r4⟩
  · subst r1
    refine R_alenE dJ2_add_2_2 ?_
    have e : n = cap := by omega
    refine R_icmp_ne 11 dJ2_add_2_3 (by decide) (fun q => absurd (by rw [e, r2]; rfl) q) (fun _ => grow e)
  · refine R_alen dJ2_add_2_2 (t := 4) (by decide) r3.1 r3.2 ?_
    refine R_icmp_ne 11 dJ2_add_2_3 (by decide) (fun q => ?_) (fun q => grow ((nI_eq (by omega) (by show cap < _; omega)).mp q))
    have e : n < cap := by
      rcases Nat.lt_or_ge n cap with z | z
      · exact z
      · exact absurd (by rw [show n = cap by omega]) q
    refine R_aload_n dJ2_add_2_11 rfl ?_
    refine R_iload_n dJ2_add_2_12 rfl ?_
    refine R_aload_n dJ2_add_2_13 rfl ?_
    refine R_aast dJ2_add_2_14 (t := 4) rfl r3.1 r1 r3.2 hx hxe hq1 (Or.inr hq2) (vin e (by omega)) ?_
    rw [hcn]
    refine R_aload_n dJ2_add_2_15 rfl ?_
    refine R_iload_n dJ2_add_2_16 rfl ?_
    refine R_iconst (v := 1) dJ2_add_2_17 (by decide) ?_
    refine R_iadd dJ2_add_2_18 ?_
    rw [nI_1]
    refine R_putM dJ2_add_2_19 fm_J2_48_16 ft_16_2 rfl rfl h.1 hL (by rw [hsN (fun z => r2 z.symm)]; exact h.2) (Nat.le_of_ble_eq_true rfl) ?_
    exact R_vret dJ2_add_2_22 rfl ⟨rfl, Or.inl ⟨e, r1, rfl⟩⟩
theorem ev_add (d : Nat) {x : Nat} {fs : List Value} (h : isLs hp L mc ed n) (hL : K0 ≤ L) (hr : rowK hp L ed cap f) (hn : n ≤ cap) (hc : cap ≤ 100) (he : elC hp f n ci) (hci : okEl ci) (hK : K0 ≤ hp.2) (hx : x < hp.2) (hxe : hp.1 x = .inr (ci, fs)) (hxL : x ≠ L) (heL : ∀ i, i < n → f i ≠ some L) : Ev G l mJ2_add (d + 6) 1 (10 + 2 * cap) [.ref L, .ref x] hp (fun v hp1 => v = some (.int 1) ∧ adP (hset hp L (lsC (mc + 1) ed n)) L ed (mc + 1) n cap f x hp1) := by
  refine Ev.of (by decide) (Nat.le_of_ble_eq_true rfl) ?_
  refine R_aload_n dJ2_add_0 rfl ?_
  refine R_dup dJ2_add_1 rfl ?_
  refine R_getM dJ2_add_2 fm_J2_63_16 h.1 h.2 (v := .int mc) rfl ?_
  refine R_iconst (v := 1) dJ2_add_5 (by decide) ?_
  refine R_iadd dJ2_add_6 ?_
  refine R_putM dJ2_add_7 fm_J2_63_16 ft_16_0 rfl rfl h.1 hL h.2 (Nat.le_of_ble_eq_true rfl) ?_
  have h' : isLs (hset hp L (lsC (mc + 1) ed n)) L (mc + 1) ed n := ⟨h.1, hsS⟩
  refine R_aload_n dJ2_add_10 rfl ?_
  refine R_aload_n dJ2_add_11 rfl ?_
  refine R_aload_n dJ2_add_12 rfl ?_
  refine R_getM dJ2_add_13 fm_J2_9_16 h'.1 h'.2 (v := .ref ed) rfl ?_
  refine R_aload_n dJ2_add_16 rfl ?_
  refine R_getM dJ2_add_17 fm_J2_48_16 h'.1 h'.2 (v := .int (nI n)) rfl ?_
  have hr' : rowK (hset hp L (lsC (mc + 1) ed n)) L ed cap f := by
    rcases hr with z | ⟨r1, r2, r3, r4⟩
    · exact Or.inl z
    · exact Or.inr ⟨r1, r2, ⟨r3.1, by rw [hsN r2]; exact r3.2⟩, r4⟩
  have he' : elC (hset hp L (lsC (mc + 1) ed n)) f n ci := fun i hi y hy => by
    obtain ⟨w1, fs, w2⟩ := he i hi y hy
    exact ⟨w1, fs, by rw [hsN (fun z => heL i hi (by rw [hy, z]))]; exact w2⟩
  refine R_callV (As := [.ref x, .ref ed, .int (nI n)]) dJ2_add_20 cv_J2_131 rfl rfl (Nat.le_of_ble_eq_true rfl) h'.1 h'.2 rfl (ev_add2 d h' hL hr' hn hc he' hci hK hx (by rw [hsN hxL]; exact hxe) hxL) (Nat.le_refl _) (Nat.le_refl _) (fun v hp1 hq => ?_)
  obtain ⟨rfl, hq⟩ := hq
  refine R_iconst (v := 1) dJ2_add_23 (by decide) ?_
  exact R_iret dJ2_add_24 rfl rfl ⟨rfl, hq⟩
theorem ev_isEmpty (d : Nat) (h : isLs hp L mc ed n) (hn : n < 2 ^ 31) : Ev G l mJ2_isEmpty (d + 1) 0 0 [.ref L] hp (fun v hp1 => v = some (.int (if n = 0 then 1 else 0)) ∧ hp1 = hp) := by
  refine Ev.of (by decide) (Nat.le_of_ble_eq_true rfl) ?_
  refine R_aload_n dJ2_isEmpty_0 rfl ?_
  refine R_getM dJ2_isEmpty_1 fm_J2_48_16 h.1 h.2 (v := .int (nI n)) rfl ?_
  refine R_if_ne 11 dJ2_isEmpty_4 (by decide) (fun q => ?_) (fun q => ?_)
  · refine R_iconst (v := 0) dJ2_isEmpty_11 (by decide) ?_
    refine R_iret dJ2_isEmpty_12 rfl rfl ⟨?_, rfl⟩
    rw [if_neg (fun z => q (by rw [z]; rfl))]
  · refine R_iconst (v := 1) dJ2_isEmpty_7 (by decide) ?_
    refine R_goto 12 dJ2_isEmpty_8 (by decide) ?_
    refine R_iret dJ2_isEmpty_12 rfl rfl ⟨?_, rfl⟩
    rw [if_pos ((nI_eq (b := 0) hn (by decide)).mp q)]
end L3
