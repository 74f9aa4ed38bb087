/-! the component: what was seen holds -/
set_option maxRecDepth 100000
theorem cf_X0_356 : CF RX0 356 0 mJ10_hasNext := ⟨by decide, rfl, q1385, q729, q731, q136, q733, by decide⟩
theorem cf_X0_361 : CF RX0 361 1 mJ10_next := ⟨by decide, rfl, q1387, q738, q740, q136, q742, by decide⟩
def cntC (s : Nat → Int32) (k : Int32) : Bool := decide (¬ k < s 1) && (decide (s 3 < 0) || decide (k < s 3))
def okGC (D : Dn) (wf : Nat → Nat → Bool) (k : Int32) (g : Nat) : Nat → Bool := acc8 (fun j ok => ok && (if cntC (dV D 2 j) k then decide (bi (wf g (dV D 2 j 0).toNatClampNeg) = dV D 2 j 2) else true)) true
theorem okGC_s (D : Dn) (wf : Nat → Nat → Bool) (k : Int32) (g j : Nat) : okGC D wf k g (j + 1) = (okGC D wf k g j && (if cntC (dV D 2 j) k then decide (bi (wf g (dV D 2 j 0).toNatClampNeg) = dV D 2 j 2) else true)) := rfl
theorem okGC_f {D : Dn} {wf : Nat → Nat → Bool} {k : Int32} {g j : Nat} (h : okGC D wf k g j = false) : ∀ n, okGC D wf k g (j + n) = false := by
  intro n
  induction n with
  | zero => exact h
  | succ n ih => rw [← Nat.add_assoc, okGC_s, ih]; rfl
section Is
variable {G : Wd} {l : Launch} {hp : Hp} {ρ : Rho} {fr : Nat → Option va_E} {A : Nat → Nat} {D : Dn} {σ : Sg}
theorem ls_at {w : Nat} (hA : okA rgM A hp) (hs : sgOK D σ) (hw : w < 3) : isLs (ov rgM A σ hp) (A (plc w)) (σ.1 (plc w) 0) (dRow D w) (dN D w) := by
  have hpl : plc w < 31 := by unfold plc; split <;> omega
  have e := ov_at (σ := σ) hA (show plc w < rgM.2.2 from hpl)
  refine ⟨(hA.1 _ hpl).2, ?_⟩
  rw [e]
  obtain ⟨s1, s2⟩ := hs.1 w hw
  have hc : ceR rgM A σ (plc w) = .inr (16, [.int (σ.1 (plc w) 0), σ.2.2 (plc w) 1, .int (σ.1 (plc w) 2)]) := by
    match w, hw with
    | 0, _ => rfl
    | 1, _ => rfl
    | 2, _ => rfl
  rw [hc, s1, s2]
theorem ev_counts (d : Nat) {a : Nat} {v : Nat → Int32} (k : Int32) (ha : a < hp.2) (he : hp.1 a = sgC v) : Ev G l mX18_counts (d + 1) 0 0 [.ref a, .int k] hp (fun r h => r = some (.int (bi (cntC v k))) ∧ h = hp) := by
  unfold cntC
  refine Ev.of (by decide) (Nat.le_of_ble_eq_true rfl) ?_
  refine R_aload_n dX18_counts_0 rfl ?_
  refine R_getM dX18_counts_1 fm_X18_22_15 ha he (v := .int (v 1)) rfl ?_
  refine R_iload_n dX18_counts_4 rfl ?_
  have no : ∀ b, b = false → RnH [] G l mX18_counts (d + 1) (fun r h => r = some (.int (bi b)) ∧ h = hp) noX 27 [.ref a, .int k] [] hp 0 0 := by
    intro b hb
    refine R_iconst (v := 0) dX18_counts_27 (by decide) ?_
    exact R_iret dX18_counts_28 rfl rfl ⟨by rw [hb]; rfl, rfl⟩
  have yes : ∀ b, b = true → RnH [] G l mX18_counts (d + 1) (fun r h => r = some (.int (bi b)) ∧ h = hp) noX 23 [.ref a, .int k] [] hp 0 0 := by
    intro b hb
    refine R_iconst (v := 1) dX18_counts_23 (by decide) ?_
    refine R_goto 28 dX18_counts_24 (by decide) ?_
    exact R_iret dX18_counts_28 rfl rfl ⟨by rw [hb]; rfl, rfl⟩
  refine R_icmp_gt 27 dX18_counts_5 (by decide) (fun q => no _ (by rw [decide_eq_false (fun z => z q)]; rfl)) (fun q1 => ?_)
  rw [decide_eq_true q1, Bool.true_and] at *
  refine R_aload_n dX18_counts_8 rfl ?_
  refine R_getM dX18_counts_9 fm_X18_9_15 ha he (v := .int (v 3)) rfl ?_
  refine R_if_lt 23 dX18_counts_12 (by decide) (fun q => yes _ (by rw [decide_eq_true q]; rfl)) (fun q2 => ?_)
  refine R_aload_n dX18_counts_15 rfl ?_
  refine R_getM dX18_counts_16 fm_X18_9_15 ha he (v := .int (v 3)) rfl ?_
  refine R_iload_n dX18_counts_19 rfl ?_
  refine R_icmp_le 27 dX18_counts_20 (by decide) (fun q => no _ ?_) (fun q => yes _ ?_)
  · rw [decide_eq_false q2, decide_eq_false (Int32.not_lt.mpr q)]; rfl
  · rw [decide_eq_true (Int32.not_le.mp q), Bool.or_true]
theorem isSoC (d : Nat) {g : Nat} (k : Int32) (wf : Nat → Nat → Bool) (hs : sgOK D σ) (hg : g ≤ 30) (hd : ∀ j, j < dN D 2 → ∃ dj, dj ≤ 20 ∧ dV D 2 j 0 = nI dj) (hf : ∀ dd, dd ≤ 20 → σ.1 25 (21 * g + dd) = bi (wf g dd)) :
    Tv ρ (ED ρ fr A D) A mX0_isSo (d + 3) 1 4 [.ref (A 0), .int (nI g), .int k] σ (some (.int (bi (okGC D wf k g (dN D 2))))) σ := by
  refine ⟨rfl, fun G l hp hB hR => ?_⟩
  have hA := hB.1
  have hL : isLs (ov rgM A σ hp) (A 24) (σ.1 24 0) (dRow D 2) (dN D 2) := ls_at (w := 2) hA hs (by decide)
  have hK : K0 ≤ hp.2 := by have := hA.1 0 (by decide); omega
  have h24 : A 24 < hp.2 := (hA.1 24 (by decide)).2
  refine Ev.of (by decide) (Nat.le_of_ble_eq_true rfl) ?_
  refine R_aload_n dX0_isSo_0 rfl ?_
  refine V_geta (o := 0) (q := 24) hB.1 dX0_isSo_1 fm_X0_86_1 ⟨by decide, by decide, rfl, rfl⟩ ?_
  refine R_callV (As := []) dX0_isSo_4 cv_X0_352 rfl rfl (Nat.le_of_ble_eq_true rfl) hL.1 hL.2 rfl (ev_iterator d hL hK) (by decide) (by decide) (fun v h1 hq => ?_)
  obtain ⟨rfl, rfl⟩ := hq
  refine R_astore_n dX0_isSo_7 (by decide) rfl ?_
  rw [ov_new hA]
  have out : outA rgM A hp.2 := fun o ho z => by have := (hA.1 o ho).2; omega
  -- the picture with the iterator at j
  have xj : ∀ e, xt (fun _ => False) hp (hnew hp e) := fun e => ⟨Nat.le_succ _, fun i hi _ => hnN (by omega)⟩
  have Bj : ∀ e, Bs ρ (ED ρ fr A D) A (hnew hp e) := fun e => ⟨hA.x (xj e), hB.2.1.k (xj e) (fun _ _ _ z => absurd z (fun y => y)) ⟨fun z => z, fun z => z⟩, hB.2.2.k (xj e)⟩
  have key : ∀ m j last, j + m = dN D 2 → okGC D wf k g j = true → RnH [] G l mX0_isSo (d + 3) (PV ρ (ED ρ fr A D) A (some (.int (bi (okGC D wf k g (dN D 2))))) σ) noX 8 [.ref (A 0), .int (nI g), .int k, .ref hp.2, U_] [] (ov rgM A σ (hnew hp (itC (nI j) last (σ.1 24 0) (A 24)))) 0 0 := by
    intro m
    induction m with
    | zero =>
      intro j last hj hok
      have hB' := Bj (itC (nI j) last (σ.1 24 0) (A 24))
      have hn100 : dN D 2 ≤ 100 := Nat.le_trans (hB.2.2.1.1 2 (by decide)).1 (hB.2.2.1.1 2 (by decide)).2.1
      have hL' : isLs (ov rgM A σ (hnew hp (itC (nI j) last (σ.1 24 0) (A 24)))) (A 24) (σ.1 24 0) (dRow D 2) (dN D 2) := ls_at (w := 2) hB'.1 hs (by decide)
      refine R_aload_n dX0_isSo_8 rfl ?_
      refine R_callF dX0_isSo_9 cf_X0_356 rfl (Nat.le_of_ble_eq_true rfl) (by show hp.2 < hp.2 + 1; omega) (by rw [ov_out out, hnS]) (ev_hasNext (d + 1) (L := A 24) (a := hp.2) hL' (by show hp.2 < hp.2 + 1; omega) (by rw [ov_out out, hnS]) (by omega) (by omega)) (Nat.zero_le _) (Nat.zero_le _) (fun v h1 hq => ?_)
      obtain ⟨rfl, rfl⟩ := hq
      refine R_if_eq 65 dX0_isSo_14 (by decide) (fun _ => ?_) (fun q => absurd (by rw [if_pos (by omega)]) q)
      refine R_iconst (v := 1) dX0_isSo_65 (by decide) ?_
      refine R_iret dX0_isSo_66 rfl rfl ⟨?_, _, hB', rfl⟩
      rw [show dN D 2 = j by omega, hok]
      rfl
    | succ m ih =>
      intro j last hj hok
      have hjn : j < dN D 2 := by omega
      have hB' := Bj (itC (nI j) last (σ.1 24 0) (A 24))
      have hl2 := hB'.2.2.1.1 2 (by decide)
      have hn100 : dN D 2 ≤ 100 := Nat.le_trans hl2.1 hl2.2.1
      have hL' : isLs (ov rgM A σ (hnew hp (itC (nI j) last (σ.1 24 0) (A 24)))) (A 24) (σ.1 24 0) (dRow D 2) (dN D 2) := ls_at (w := 2) hB'.1 hs (by decide)
      have hrow : atC A (hnew hp (itC (nI j) last (σ.1 24 0) (A 24))) (dRow D 2) (rwC (dCap D 2) (dF D 2)) := by
        rcases hl2.2.2.1 with z | z
        · have := hl2.1; omega
        · exact z.1
      have hRw : isRw (ov rgM A σ (hnew hp (itC (nI j) last (σ.1 24 0) (A 24)))) (dRow D 2) (dCap D 2) (dF D 2) := ⟨hrow.2.1, by rw [ov_out hrow.2.2.1]; exact hrow.2.2.2⟩
      have hrne : dRow D 2 ≠ hp.2 := by
        intro z
        have := hrow.2.2.2
        rw [z, hnS] at this
        cases this
      refine R_aload_n dX0_isSo_8 rfl ?_
      refine R_callF dX0_isSo_9 cf_X0_356 rfl (Nat.le_of_ble_eq_true rfl) (by show hp.2 < hp.2 + 1; omega) (by rw [ov_out out, hnS]) (ev_hasNext (d + 1) (L := A 24) (a := hp.2) hL' (by show hp.2 < hp.2 + 1; omega) (by rw [ov_out out, hnS]) (by omega) (by omega)) (Nat.zero_le _) (Nat.zero_le _) (fun v h1 hq => ?_)
      obtain ⟨rfl, rfl⟩ := hq
      refine R_if_eq 65 dX0_isSo_14 (by decide) (fun q => absurd q (by rw [if_neg (by omega)]; decide)) (fun _ => ?_)
      refine R_aload_n dX0_isSo_17 rfl ?_
      refine R_callF dX0_isSo_18 cf_X0_361 rfl (Nat.le_of_ble_eq_true rfl) (by show hp.2 < hp.2 + 1; omega) (by rw [ov_out out, hnS]) (ev_next d (L := A 24) (a := hp.2) hL' hRw (by show hp.2 < hp.2 + 1; omega) hK hrne (by rw [ov_out out, hnS]) hjn hl2.1 (Nat.le_trans hl2.2.1 (by decide)) (hl2.2.2.2 j hjn)) (Nat.zero_le _) (Nat.zero_le _) (fun v h1 hq => ?_)
      obtain ⟨rfl, rfl⟩ := hq
      rw [ov_base out, hnn]
      have hB2 := Bj (itC (nI (j + 1)) (nI j) (σ.1 24 0) (A 24))
      have hsig := hB2.2.2.1.2.2.2.1 j hjn
      have hse : (ov rgM A σ (hnew hp (itC (nI (j + 1)) (nI j) (σ.1 24 0) (A 24)))).1 (dEl D 2 j) = sgC (dV D 2 j) := by rw [ov_out hsig.2.2.1]; exact hsig.2.2.2
      refine R_cast dX0_isSo_23 rfl q1340 (Or.inl rfl) hsig.2.1 hse ?_
      refine R_astore dX0_isSo_26 (by decide) rfl ?_
      refine R_aload dX0_isSo_28 rfl ?_
      refine R_iload_n dX0_isSo_30 rfl ?_
      refine R_callV (As := [.int k]) dX0_isSo_31 cv_X0_365 rfl rfl (Nat.le_of_ble_eq_true rfl) hsig.2.1 hse rfl (ev_counts (d + 1) k hsig.2.1 hse) (Nat.zero_le _) (Nat.zero_le _) (fun v h1 hq => ?_)
      obtain ⟨rfl, rfl⟩ := hq
      have next : okGC D wf k g (j + 1) = true → RnH [] G l mX0_isSo (d + 3) (PV ρ (ED ρ fr A D) A (some (.int (bi (okGC D wf k g (dN D 2))))) σ) noX 62 [.ref (A 0), .int (nI g), .int k, .ref hp.2, .ref (dEl D 2 j)] [] (ov rgM A σ (hnew hp (itC (nI (j + 1)) (nI j) (σ.1 24 0) (A 24)))) 0 0 := by
        intro h9
        refine R_goto 8 dX0_isSo_62 (by decide) ?_
        refine R_drop 4 ?_
        exact ih (j + 1) (nI j) (by omega) h9
      have es : okGC D wf k g (j + 1) = (if cntC (dV D 2 j) k then decide (bi (wf g (dV D 2 j 0).toNatClampNeg) = dV D 2 j 2) else true) := by rw [okGC_s, hok, Bool.true_and]
      cases hc : cntC (dV D 2 j) k with
      | false =>
        refine R_if_eq 62 dX0_isSo_34 (by decide) (fun _ => next (by rw [es, hc]; rfl)) (fun q => absurd rfl q)
      | true =>
        rw [hc, if_pos rfl] at es
        refine R_if_eq 62 dX0_isSo_34 (by decide) (fun q => absurd q (by decide)) (fun _ => ?_)
        obtain ⟨dj, hdj, edj⟩ := hd j hjn
        refine R_aload_n dX0_isSo_37 rfl ?_
        refine V_geta (o := 0) (q := 25) hB2.1 dX0_isSo_38 fm_X0_89_1 ⟨by decide, by decide, rfl, rfl⟩ ?_
        refine R_bipush (v := 21) dX0_isSo_41 (by decide) ?_
        refine R_iload_n dX0_isSo_43 rfl ?_
        refine R_imul dX0_isSo_44 ?_
        refine R_aload dX0_isSo_45 rfl ?_
        refine R_getM dX0_isSo_47 fm_X0_368_15 hsig.2.1 hse (v := .int (dV D 2 j 0)) rfl ?_
        refine R_iadd dX0_isSo_50 ?_
        have e21 : (21 : Int32) * nI g + dV D 2 j 0 = nI (21 * g + dj) := by rw [edj, n21]
        rw [e21]
        refine V_zald (o := 25) (x := bi (wf g dj)) hB2.1 dX0_isSo_51 ⟨by decide, rfl⟩ (vin (show 21 * g + dj < 651 by omega) (by decide)) (by rw [cl (by omega)]; exact hf dj hdj) ?_
        refine R_aload dX0_isSo_52 rfl ?_
        refine R_getM dX0_isSo_54 fm_X0_371_15 hsig.2.1 hse (v := .int (dV D 2 j 2)) rfl ?_
        rw [edj, cl (by omega)] at es
        refine R_icmp_eq 62 dX0_isSo_57 (by decide) (fun q => next (by rw [es]; exact decide_eq_true q)) (fun q => ?_)
        refine R_iconst (v := 0) dX0_isSo_60 (by decide) ?_
        refine R_iret dX0_isSo_61 rfl rfl ⟨?_, _, hB2, rfl⟩
        rw [decide_eq_false q] at es
        have := okGC_f es (dN D 2 - (j + 1))
        rw [show j + 1 + (dN D 2 - (j + 1)) = dN D 2 by omega] at this
        rw [this]
        rfl
  exact key (dN D 2) 0 (-1) (by omega) rfl
end Is
