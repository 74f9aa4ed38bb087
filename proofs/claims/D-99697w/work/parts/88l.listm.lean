/-! lists that change: growing, adding, removing, clearing -/
set_option maxRecDepth 100000
theorem hsS {hp : Hp} {a : Nat} {e : va_E} : (hset hp a e).1 a = e := if_pos rfl
theorem hsN {hp : Hp} {a i : Nat} {e : va_E} (h : i ≠ a) : (hset hp a e).1 i = hp.1 i := if_neg h
theorem hnS {hp : Hp} {e : va_E} : (hnew hp e).1 hp.2 = e := if_pos rfl
theorem hnN {hp : Hp} {i : Nat} {e : va_E} (h : i ≠ hp.2) : (hnew hp e).1 i = hp.1 i := if_neg h
theorem hss {hp : Hp} {a : Nat} {e e' : va_E} : hset (hset hp a e) a e' = hset hp a e' := by
  apply Prod.ext
  · funext i
    show (if i = a then e' else if i = a then e else hp.1 i) = if i = a then e' else hp.1 i
    by_cases h : i = a
    · rw [if_pos h, if_pos h]
    · rw [if_neg h, if_neg h, if_neg h]
  · rfl
theorem hsc {hp : Hp} {a b : Nat} {e e' : va_E} (h : a ≠ b) : hset (hset hp a e) b e' = hset (hset hp b e') a e := by
  apply Prod.ext
  · funext i
    show (if i = b then e' else if i = a then e else hp.1 i) = if i = a then e else if i = b then e' else hp.1 i
    by_cases h1 : i = a
    · rw [if_pos h1, if_neg (fun q => h (h1.symm.trans q)), if_pos h1]
    · by_cases h2 : i = b
      · rw [if_pos h2, if_neg h1, if_pos h2]
      · rw [if_neg h2, if_neg h1, if_neg h1, if_neg h2]
  · rfl
/-- all that a row holds is of one class -/
def elC (hp : Hp) (f : Nat → Option Nat) (n ci : Nat) : Prop := ∀ i, i < n → ∀ y, f i = some y → y < hp.2 ∧ ∃ fs, hp.1 y = .inr (ci, fs)
def okEl (ci : Nat) : Prop := ∃ q : vw_C, clA[ci]? = some q ∧ Cond.castable q.1 "java/lang/Object" ∈ lw_tbl
theorem okEl_7 : okEl 7 := ⟨_, rfl, q2167⟩
theorem okEl_9 : okEl 9 := ⟨_, rfl, q2178⟩
theorem okEl_10 : okEl 10 := ⟨_, rfl, q2180⟩
theorem okEl_15 : okEl 15 := ⟨_, rfl, q2185⟩
abbrev rwC (cap : Nat) (f : Nat → Option Nat) : va_E := .inl (4, cap, .inr (.inr (.inr (.inr f))))
theorem shr1 : ∀ c : Fin 128, nI c.val >>> ((1 : Int32) &&& 31) = nI (c.val / 2) := by decide +kernel
theorem min_n {a b : Nat} (ha : a < 100000) (hb : b < 100000) : sj_min (nI a) (nI b) = nI (min a b) := by rw [min_l]; exact les_nI ha hb
theorem max_n {a b : Nat} (ha : a < 100000) (hb : b < 100000) : sj_max (nI a) (nI b) = nI (max a b) := by rw [max_g]; exact gre_nI ha hb
theorem stj_len (d : Nat) {cap a b : Nat} (h1 : 0 < cap) (h2 : cap ≤ 1000) (h3 : a ≤ 1000) (h4 : b ≤ 1000) : St8 mJ11_newLength (d + 1) [.int (nI cap), .int (nI a), .int (nI b)] (some (.int (nI (cap + max a b)))) := by
  refine St8.of (by decide) rfl (fun G => Nat.le_of_ble_eq_true rfl) ?_
  intro G l hp
  refine R_iload_n dJ11_newLength_0 rfl ?_
  refine R_iload_n dJ11_newLength_1 rfl ?_
  refine R_iload_n dJ11_newLength_2 rfl ?_
  refine R_mmax dJ11_newLength_3 q822 (Nat.le_of_ble_eq_true rfl) ?_
  refine R_iadd dJ11_newLength_6 ?_
  rw [max_n (by omega) (by omega), nI_add]
  refine R_istore_n dJ11_newLength_7 (by decide) rfl ?_
  refine R_iconst (v := 0) dJ11_newLength_8 (by decide) ?_
  refine R_iload_n dJ11_newLength_9 rfl ?_
  refine R_icmp_ge 21 dJ11_newLength_10 (by decide) (fun q => absurd q (nI_nle (by omega) (by omega))) (fun _ => ?_)
  refine R_iload_n dJ11_newLength_13 rfl ?_
  refine R_ldc dJ11_newLength_14 q825 ?_
  refine R_icmp_gt 21 dJ11_newLength_16 (by decide) (fun q => absurd q ?_) (fun _ => ?_)
  · rw [i32_nlt]
    exact nI_le (b := 2147483639) (by omega) (by decide)
  refine R_iload_n dJ11_newLength_19 rfl ?_
  exact R_iret dJ11_newLength_20 rfl rfl ⟨rfl, rfl⟩
theorem ev_copyOf2 (d : Nat) {G : Wd} {l : Launch} {hp : Hp} {a0 n0 N ci : Nat} {f : Nat → Option Nat} (hr : isRw hp a0 n0 f) (he : elC hp f n0 ci) (hc : okEl ci) (h1 : n0 ≤ N) (h2 : N ≤ 5000) (hK : K0 ≤ hp.2) : Ev G l mJ13_copyOf_2 (d + 1) 1 N [.ref a0, .int (nI N), .ref 46] hp (fun v hp1 => v = some (.ref hp.2) ∧ hp1 = hset (hnew hp (rwC N (fun _ => none))) hp.2 (rwC N (va_cpy f (fun _ => none) 0 0 n0))) := by
  obtain ⟨q, hq, hca⟩ := hc
  have z0 : (0 : Int32).toNatClampNeg = 0 := by decide
  have zn : (nI n0).toNatClampNeg = n0 := cl (by omega)
  have hne : a0 ≠ hp.2 := fun e => by have := hr.1; omega
  refine Ev.of (by decide) (Nat.le_of_ble_eq_true rfl) ?_
  refine R_aload_n dJ13_copyOf_2_0 rfl ?_
  refine R_ldcM dJ13_copyOf_2_1 q857 ?_
  refine R_acmp_ne (Or.inr ⟨_, rfl⟩) (Or.inr ⟨_, rfl⟩) (fun a b ha hb _ => by cases ha; cases hb; rfl) 13 dJ13_copyOf_2_3 (by decide) (fun q => absurd rfl q) (fun _ => ?_)
  refine R_iload_n dJ13_copyOf_2_6 rfl ?_
  refine R_newr dJ13_copyOf_2_7 (t := 4) ⟨rfl, by decide⟩ q859 (nI_nneg (by omega)) (cl (by omega)) (by omega) (Nat.le_refl _) (Nat.le_refl _) ?_
  refine R_goto 24 dJ13_copyOf_2_10 (by decide) ?_
  refine R_astore_n dJ13_copyOf_2_24 (by decide) rfl ?_
  refine R_aload_n dJ13_copyOf_2_25 rfl ?_
  refine R_iconst (v := 0) dJ13_copyOf_2_26 (by decide) ?_
  refine R_aload_n dJ13_copyOf_2_27 rfl ?_
  refine R_iconst (v := 0) dJ13_copyOf_2_28 (by decide) ?_
  refine R_aload_n dJ13_copyOf_2_29 rfl ?_
  refine R_alen dJ13_copyOf_2_30 (t := 4) (by decide) (by show a0 < hp.2 + 1; have := hr.1; omega) (by rw [hnN hne]; exact hr.2) ?_
  refine R_iload_n dJ13_copyOf_2_31 rfl ?_
  refine R_mmin dJ13_copyOf_2_32 q860 (Nat.le_of_ble_eq_true rfl) ?_
  rw [min_n (by omega) (by omega), Nat.min_eq_left h1]
  refine R_copyr dJ13_copyOf_2_35 q863 (by show a0 < hp.2 + 1; have := hr.1; omega) (by rw [hnN hne]; exact hr.2) (by show hp.2 < hp.2 + 1; omega) hK hnS hq hca ?_ (by decide) (by decide) (nI_nneg (by omega)) (by rw [z0, zn]; omega) (by rw [z0, zn]; omega) (Nat.le_of_ble_eq_true rfl) ?_
  · intro i hi y hy
    rw [z0, Nat.zero_add] at hy
    rw [zn] at hi
    obtain ⟨w1, fs, w2⟩ := he i hi y hy
    exact ⟨by show y < hp.2 + 1; omega, fs, by rw [hnN (by omega)]; exact w2⟩
  rw [z0, zn]
  refine R_aload_n dJ13_copyOf_2_38 rfl ?_
  exact R_aret dJ13_copyOf_2_39 rfl (Or.inr ⟨_, rfl⟩) (Or.inr ⟨_, rfl⟩) ⟨rfl, rfl⟩
theorem ev_copyOf (d : Nat) {G : Wd} {l : Launch} {hp : Hp} {a0 n0 N ci : Nat} {f : Nat → Option Nat} (hr : isRw hp a0 n0 f) (he : elC hp f n0 ci) (hc : okEl ci) (h1 : n0 ≤ N) (h2 : N ≤ 5000) (hK : K0 ≤ hp.2) : Ev G l mJ13_copyOf (d + 2) 1 N [.ref a0, .int (nI N)] hp (fun v hp1 => v = some (.ref hp.2) ∧ hp1 = hset (hnew hp (rwC N (fun _ => none))) hp.2 (rwC N (va_cpy f (fun _ => none) 0 0 n0))) := by
  refine Ev.of (by decide) (Nat.le_of_ble_eq_true rfl) ?_
  refine R_aload_n dJ13_copyOf_0 rfl ?_
  refine R_iload_n dJ13_copyOf_1 rfl ?_
  refine R_aload_n dJ13_copyOf_2 rfl ?_
  refine R_getC dJ13_copyOf_3 q832 hr.1 hr.2 (Nat.le_of_ble_eq_true rfl) ?_
  refine R_callS (As := [.ref a0, .int (nI N), .ref 46]) dJ13_copyOf_6 cs_J13_300 rfl rfl (Nat.le_of_ble_eq_true rfl) (ev_copyOf2 d hr he hc h1 h2 hK) (Nat.le_refl _) (Nat.le_refl _) (fun v hp1 hq => ?_)
  obtain ⟨rfl, rfl⟩ := hq
  exact R_aret dJ13_copyOf_9 rfl (Or.inr ⟨_, rfl⟩) (Or.inr ⟨_, rfl⟩) ⟨rfl, rfl⟩
