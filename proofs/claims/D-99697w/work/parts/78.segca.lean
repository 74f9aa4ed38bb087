/-! printed: segments of the component's methods -/
set_option maxRecDepth 100000
theorem gc_X0_bytes_0 {d : Nat} {v1 : Int32} {c k : Nat} {ρ : Rho} {E : Hp → Prop} {A : Nat → Nat} {σ σ1 : Sg} {r : Option Value} (h : Rv ρ E A mX0_bytes (d + 1) c k 3 [.ref (A 0), .int v1, .int 24] [] σ r σ1) : Rv ρ E A mX0_bytes (d + 1) c k 0 [.ref (A 0), .int v1, U_] [] σ r σ1 := by
  intro G l hp hB hR
  refine R_bipush (v := 24) dX0_bytes_0 (by decide) ?_
  refine S_istore_n (ls1 := [.ref (A 0), .int v1, .int 24]) dX0_bytes_2 (by decide) rfl rfl ?_
  exact h G l hp hB hR
theorem gc_X0_bytes_3 {d : Nat} {v1 : Int32} {v2 : Int32} {c k : Nat} {ρ : Rho} {E : Hp → Prop} {A : Nat → Nat} {σ σ1 : Sg} {r : Option Value} (h : ((v2 < 0) → r = none ∧ σ1 = σ) ∧ ((¬ v2 < 0) → vp_in (σ.1 0 5) 1600 ∧ (Rv ρ E A mX0_bytes (d + 1) c k 3 [.ref (A 0), .int v1, .int (v2 + (-8))] [] (upA (upA σ.1 15 (upd (σ.1 15) (σ.1 0 5).toNatClampNeg ((v1 >>> (v2 &&& 31)).toInt8.toInt32))) 0 (upd (σ.1 0) 5 ((σ.1 0 5) + 1)), σ.2) r σ1))) : Rv ρ E A mX0_bytes (d + 1) c k 3 [.ref (A 0), .int v1, .int v2] [] σ r σ1 := by
  intro G l hp hB hR
  refine R_iload_n dX0_bytes_3 rfl ?_
  refine R_if_lt 36 dX0_bytes_4 (by decide) (fun c1 => ?_) (fun c1 => ?_)
  · replace h := h.1 c1
    exact R_vret dX0_bytes_36 rfl ⟨h.1.symm, hp, hB, by rw [h.2]⟩
  · replace h := h.2 c1
    refine R_aload_n dX0_bytes_7 rfl ?_
    refine V_geta (o := 0) (q := 15) hB.1 dX0_bytes_8 fm_X0_35_1 ⟨by decide, by decide, rfl, rfl⟩ ?_
    refine R_aload_n dX0_bytes_11 rfl ?_
    refine V_get (o := 0) (x := σ.1 0 5) hB.1 dX0_bytes_12 fm_X0_151_1 ⟨by decide, by decide, rfl, rfl⟩ rfl ?_
    refine R_iload_n dX0_bytes_15 rfl ?_
    refine R_iload_n dX0_bytes_16 rfl ?_
    refine R_ishr dX0_bytes_17 ?_
    refine R_i2b dX0_bytes_18 ?_
    have b2 := h.1
    replace h := h.2
    refine V_bast (o := 15) (σ9 := (upA σ.1 15 (upd (σ.1 15) (σ.1 0 5).toNatClampNeg ((v1 >>> (v2 &&& 31)).toInt8.toInt32)), σ.2)) hB.1 dX0_bytes_19 ⟨by decide, rfl⟩ (pk_nb _) b2 rfl ?_
    refine R_aload_n dX0_bytes_20 rfl ?_
    refine R_dup dX0_bytes_21 rfl ?_
    refine V_get (o := 0) (x := σ.1 0 5) hB.1 dX0_bytes_22 fm_X0_151_1 ⟨by decide, by decide, rfl, rfl⟩ rfl ?_
    refine R_iconst (v := 1) dX0_bytes_25 (by decide) ?_
    refine R_iadd dX0_bytes_26 ?_
    refine V_put (o := 0) (σ9 := (upA (upA σ.1 15 (upd (σ.1 15) (σ.1 0 5).toNatClampNeg ((v1 >>> (v2 &&& 31)).toInt8.toInt32))) 0 (upd (σ.1 0) 5 ((σ.1 0 5) + 1)), σ.2)) hB.1 dX0_bytes_27 fm_X0_151_1 ft_1_5 rfl rfl ⟨by decide, by decide, rfl, rfl⟩ rfl ?_
    refine S_iinc (v := v2 + (-8)) (ls1 := [.ref (A 0), .int v1, .int (v2 + (-8))]) dX0_bytes_30 rfl rfl (by decide) rfl rfl ?_
    refine R_goto 3 dX0_bytes_33 (by decide) ?_
    exact h G l hp hB hR
theorem gc_X0_common_0 {d : Nat} {v0 : Int32} {v1 : Int32} {r : Option Value} (h : ((¬ v1 = 0) → (¬ v1 = 0) ∧ (∃ r2 : Int32, St8 mX0_common (d + 0) [.int v1, .int (v0 - v0 / v1 * v1)] (some (.int r2)) ∧ (r = some (.int r2)))) ∧ ((v1 = 0) → r = some (.int v0))) : RnS mX0_common (d + 1) 0 [.int v0, .int v1] [] r := by
  intro G l hp
  refine R_iload_n dX0_common_0 rfl ?_
  refine R_if_ne 8 dX0_common_1 (by decide) (fun c1 => ?_) (fun c1 => ?_)
  · replace h := h.1 c1
    refine R_iload_n dX0_common_8 rfl ?_
    refine R_iload_n dX0_common_9 rfl ?_
    refine R_iload_n dX0_common_10 rfl ?_
    refine R_irem dX0_common_11 h.1 ?_
    replace h := h.2
    obtain ⟨r2, e3, h⟩ := h
    refine V_callS [.int v1, .int (v0 - v0 / v1 * v1)] dX0_common_12 cs_X0_334 rfl rfl (Nat.le_of_ble_eq_true rfl) e3 ?_
    show RnH [] G l mX0_common (d + 1) (fun v hp1 => v = r ∧ hp1 = hp) noX 15 [.int v0, .int v1] [.int r2] hp 0 0
    exact R_iret dX0_common_15 rfl rfl ⟨h.symm, rfl⟩
  · replace h := h.2 c1
    refine R_iload_n dX0_common_4 rfl ?_
    refine R_goto 15 dX0_common_5 (by decide) ?_
    exact R_iret dX0_common_15 rfl rfl ⟨h.symm, rfl⟩
theorem gc_X0_end_0 {d : Nat} {v1 : Int32} {c k : Nat} {ρ : Rho} {E : Hp → Prop} {A : Nat → Nat} {σ σ1 : Sg} {r : Option Value} (h : ((v1 < 0) → r = some (.int (-1)) ∧ σ1 = σ) ∧ ((¬ v1 < 0) → ((v1 ≤ (σ.1 0 5)) → r = some (.int v1) ∧ σ1 = (upA σ.1 0 (upd (σ.1 0) 5 v1), σ.2)) ∧ ((¬ v1 ≤ (σ.1 0 5)) → r = some (.int (-1)) ∧ σ1 = σ))) : Rv ρ E A mX0_end (d + 1) c k 0 [.ref (A 0), .int v1] [] σ r σ1 := by
  intro G l hp hB hR
  refine R_iload_n dX0_end_0 rfl ?_
  refine R_if_lt 12 dX0_end_1 (by decide) (fun c1 => ?_) (fun c1 => ?_)
  · replace h := h.1 c1
    refine R_iconst (v := (-1)) dX0_end_12 (by decide) ?_
    exact R_iret dX0_end_13 rfl rfl ⟨h.1.symm, hp, hB, by rw [h.2]⟩
  · replace h := h.2 c1
    refine R_iload_n dX0_end_4 rfl ?_
    refine R_aload_n dX0_end_5 rfl ?_
    refine V_get (o := 0) (x := σ.1 0 5) hB.1 dX0_end_6 fm_X0_151_1 ⟨by decide, by decide, rfl, rfl⟩ rfl ?_
    refine R_icmp_le 14 dX0_end_9 (by decide) (fun c2 => ?_) (fun c2 => ?_)
    · replace h := h.1 c2
      refine R_aload_n dX0_end_14 rfl ?_
      refine R_iload_n dX0_end_15 rfl ?_
      refine V_put (o := 0) (σ9 := (upA σ.1 0 (upd (σ.1 0) 5 v1), σ.2)) hB.1 dX0_end_16 fm_X0_151_1 ft_1_5 rfl rfl ⟨by decide, by decide, rfl, rfl⟩ rfl ?_
      refine R_iload_n dX0_end_19 rfl ?_
      exact R_iret dX0_end_20 rfl rfl ⟨h.1.symm, hp, hB, by rw [h.2]⟩
    · replace h := h.2 c2
      refine R_iconst (v := (-1)) dX0_end_12 (by decide) ?_
      exact R_iret dX0_end_13 rfl rfl ⟨h.1.symm, hp, hB, by rw [h.2]⟩
theorem gc_X0_fault_0 {d : Nat} {v1 : Int32} {c k : Nat} {ρ : Rho} {E : Hp → Prop} {A : Nat → Nat} {σ σ1 : Sg} {r : Option Value} (h : r = some (.int (if v1 = 0 then σ.1 0 7 else if v1 = 1 then σ.1 0 8 else (-1))) ∧ σ1 = σ) : Rv ρ E A mX0_fault (d + 1) c k 0 [.ref (A 0), .int v1] [] σ r σ1 := by
  intro G l hp hB hR
  refine R_iload_n dX0_fault_0 rfl ?_
  have J1 : RnH [] G l mX0_fault (d + 1) (PV ρ E A r σ1) noX 24 [.ref (A 0), .int v1] [.int (if v1 = 0 then σ.1 0 7 else if v1 = 1 then σ.1 0 8 else (-1))] (ov rgM A σ hp) c k := by
    exact R_iret dX0_fault_24 rfl rfl ⟨h.1.symm, hp, hB, by rw [h.2]⟩
  refine R_if_ne 11 dX0_fault_1 (by decide) (fun c2 => ?_) (fun c2 => ?_)
  · refine R_iload_n dX0_fault_11 rfl ?_
    refine R_iconst (v := 1) dX0_fault_12 (by decide) ?_
    refine R_icmp_ne 23 dX0_fault_13 (by decide) (fun c3 => ?_) (fun c3 => ?_)
    · refine R_iconst (v := (-1)) dX0_fault_23 (by decide) ?_
      simp only [if_neg c2, if_neg c3] at J1
      first | exact J1 | (simp only [if_neg c2, if_neg c3]; exact J1)
    · refine R_aload_n dX0_fault_16 rfl ?_
      refine V_get (o := 0) (x := σ.1 0 8) hB.1 dX0_fault_17 fm_X0_46_1 ⟨by decide, by decide, rfl, rfl⟩ rfl ?_
      refine R_goto 24 dX0_fault_20 (by decide) ?_
      simp only [if_neg c2, if_pos c3] at J1
      first | exact J1 | (simp only [if_neg c2, if_pos c3]; exact J1)
  · refine R_aload_n dX0_fault_4 rfl ?_
    refine V_get (o := 0) (x := σ.1 0 7) hB.1 dX0_fault_5 fm_X0_158_1 ⟨by decide, by decide, rfl, rfl⟩ rfl ?_
    refine R_goto 24 dX0_fault_8 (by decide) ?_
    simp only [if_pos c2] at J1
    first | exact J1 | (simp only [if_pos c2]; exact J1)
theorem gc_X0_later_0 {d : Nat} {v1 : Int32} {c k : Nat} {ρ : Rho} {E : Hp → Prop} {A : Nat → Nat} {σ σ1 : Sg} {r : Option Value} (h : ((v1 < 0) → r = some (.int (-1)) ∧ σ1 = σ) ∧ ((¬ v1 < 0) → ((1000 < v1) → r = some (.int (-1)) ∧ σ1 = σ) ∧ ((¬ 1000 < v1) → ((((σ.1 0 6) + v1) ≤ 100000) → r = some (.int ((σ.1 0 6) + v1)) ∧ σ1 = (upA σ.1 0 (upd (σ.1 0) 6 ((σ.1 0 6) + v1)), σ.2)) ∧ ((¬ ((σ.1 0 6) + v1) ≤ 100000) → r = some (.int (-1)) ∧ σ1 = σ)))) : Rv ρ E A mX0_later (d + 1) c k 0 [.ref (A 0), .int v1] [] σ r σ1 := by
  intro G l hp hB hR
  refine R_iload_n dX0_later_0 rfl ?_
  refine R_if_lt 23 dX0_later_1 (by decide) (fun c1 => ?_) (fun c1 => ?_)
  · replace h := h.1 c1
    refine R_iconst (v := (-1)) dX0_later_23 (by decide) ?_
    exact R_iret dX0_later_24 rfl rfl ⟨h.1.symm, hp, hB, by rw [h.2]⟩
  · replace h := h.2 c1
    refine R_iload_n dX0_later_4 rfl ?_
    refine R_sipush (v := 1000) dX0_later_5 (by decide) ?_
    refine R_icmp_gt 23 dX0_later_8 (by decide) (fun c2 => ?_) (fun c2 => ?_)
    · replace h := h.1 c2
      refine R_iconst (v := (-1)) dX0_later_23 (by decide) ?_
      exact R_iret dX0_later_24 rfl rfl ⟨h.1.symm, hp, hB, by rw [h.2]⟩
    · replace h := h.2 c2
      refine R_aload_n dX0_later_11 rfl ?_
      refine V_get (o := 0) (x := σ.1 0 6) hB.1 dX0_later_12 fm_X0_342_1 ⟨by decide, by decide, rfl, rfl⟩ rfl ?_
      refine R_iload_n dX0_later_15 rfl ?_
      refine R_iadd dX0_later_16 ?_
      refine R_ldcw dX0_later_17 q1370 ?_
      refine R_icmp_le 25 dX0_later_20 (by decide) (fun c3 => ?_) (fun c3 => ?_)
      · replace h := h.1 c3
        refine R_aload_n dX0_later_25 rfl ?_
        refine R_dup dX0_later_26 rfl ?_
        refine V_get (o := 0) (x := σ.1 0 6) hB.1 dX0_later_27 fm_X0_342_1 ⟨by decide, by decide, rfl, rfl⟩ rfl ?_
        refine R_iload_n dX0_later_30 rfl ?_
        refine R_iadd dX0_later_31 ?_
        refine V_put (o := 0) (σ9 := (upA σ.1 0 (upd (σ.1 0) 6 ((σ.1 0 6) + v1)), σ.2)) hB.1 dX0_later_32 fm_X0_342_1 ft_1_6 rfl rfl ⟨by decide, by decide, rfl, rfl⟩ rfl ?_
        refine R_aload_n dX0_later_35 rfl ?_
        refine V_get (o := 0) (x := (σ.1 0 6) + v1) hB.1 dX0_later_36 fm_X0_342_1 ⟨by decide, by decide, rfl, rfl⟩ rfl ?_
        exact R_iret dX0_later_39 rfl rfl ⟨h.1.symm, hp, hB, by rw [h.2]⟩
      · replace h := h.2 c3
        refine R_iconst (v := (-1)) dX0_later_23 (by decide) ?_
        exact R_iret dX0_later_24 rfl rfl ⟨h.1.symm, hp, hB, by rw [h.2]⟩
theorem gc_X2_dressedn_0 {d : Nat} {c k : Nat} {ρ : Rho} {E : Hp → Prop} {A : Nat → Nat} {σ σ1 : Sg} {r : Option Value} (h : Rv ρ E A mX2_dressed (d + 1) c k 4 [.ref (A 1), .int 0, .int 0] [] σ r σ1) : Rv ρ E A mX2_dressed (d + 1) c k 0 [.ref (A 1), U_, U_] [] σ r σ1 := by
  intro G l hp hB hR
  refine R_iconst (v := 0) dX2_dressed_0 (by decide) ?_
  refine S_istore_n (ls1 := [.ref (A 1), .int 0, U_]) dX2_dressed_1 (by decide) rfl rfl ?_
  refine R_iconst (v := 0) dX2_dressed_2 (by decide) ?_
  refine S_istore_n (ls1 := [.ref (A 1), .int 0, .int 0]) dX2_dressed_3 (by decide) rfl rfl ?_
  exact h G l hp hB hR
theorem gc_X2_dressedn_4 {d : Nat} {v1 : Int32} {v2 : Int32} {c k : Nat} {ρ : Rho} {E : Hp → Prop} {A : Nat → Nat} {σ σ1 : Sg} {r : Option Value} (h : ((6 ≤ v2) → r = some (.int v1) ∧ σ1 = σ) ∧ ((¬ 6 ≤ v2) → vp_in v2 6 ∧ ((((σ.1 3 v2.toNatClampNeg) < 0) → Rv ρ E A mX2_dressed (d + 1) c k 4 [.ref (A 1), .int v1, .int (v2 + 1)] [] σ r σ1) ∧ ((¬ (σ.1 3 v2.toNatClampNeg) < 0) → Rv ρ E A mX2_dressed (d + 1) c k 4 [.ref (A 1), .int (v1 ||| (1 <<< (v2 &&& 31))), .int (v2 + 1)] [] σ r σ1)))) : Rv ρ E A mX2_dressed (d + 1) c k 4 [.ref (A 1), .int v1, .int v2] [] σ r σ1 := by
  intro G l hp hB hR
  refine R_iload_n dX2_dressed_4 rfl ?_
  refine R_bipush (v := 6) dX2_dressed_5 (by decide) ?_
  refine R_icmp_ge 31 dX2_dressed_7 (by decide) (fun c1 => ?_) (fun c1 => ?_)
  · replace h := h.1 c1
    refine R_iload_n dX2_dressed_31 rfl ?_
    exact R_iret dX2_dressed_32 rfl rfl ⟨h.1.symm, hp, hB, by rw [h.2]⟩
  · replace h := h.2 c1
    refine R_aload_n dX2_dressed_10 rfl ?_
    refine V_geta (o := 1) (q := 3) hB.1 dX2_dressed_11 fm_X2_15_3 ⟨by decide, by decide, rfl, rfl⟩ ?_
    refine R_iload_n dX2_dressed_14 rfl ?_
    have b2 := h.1
    replace h := h.2
    refine V_iald (o := 3) (x := σ.1 3 v2.toNatClampNeg) hB.1 dX2_dressed_15 ⟨by decide, rfl⟩ b2 rfl ?_
    refine R_if_lt 25 dX2_dressed_16 (by decide) (fun c3 => ?_) (fun c3 => ?_)
    · replace h := h.1 c3
      refine S_iinc (v := v2 + 1) (ls1 := [.ref (A 1), .int v1, .int (v2 + 1)]) dX2_dressed_25 rfl rfl (by decide) rfl rfl ?_
      refine R_goto 4 dX2_dressed_28 (by decide) ?_
      exact h G l hp hB hR
    · replace h := h.2 c3
      refine R_iload_n dX2_dressed_19 rfl ?_
      refine R_iconst (v := 1) dX2_dressed_20 (by decide) ?_
      refine R_iload_n dX2_dressed_21 rfl ?_
      refine R_ishl dX2_dressed_22 ?_
      refine R_ior dX2_dressed_23 ?_
      refine S_istore_n (ls1 := [.ref (A 1), .int (v1 ||| (1 <<< (v2 &&& 31))), .int v2]) dX2_dressed_24 (by decide) rfl rfl ?_
      refine S_iinc (v := v2 + 1) (ls1 := [.ref (A 1), .int (v1 ||| (1 <<< (v2 &&& 31))), .int (v2 + 1)]) dX2_dressed_25 rfl rfl (by decide) rfl rfl ?_
      refine R_goto 4 dX2_dressed_28 (by decide) ?_
      exact h G l hp hB hR
theorem gc_X2_dressedt_0 {d : Nat} {c k : Nat} {ρ : Rho} {E : Hp → Prop} {A : Nat → Nat} {σ σ1 : Sg} {r : Option Value} (h : Rv ρ E A mX2_dressed (d + 1) c k 4 [.ref (A 8), .int 0, .int 0] [] σ r σ1) : Rv ρ E A mX2_dressed (d + 1) c k 0 [.ref (A 8), U_, U_] [] σ r σ1 := by
  intro G l hp hB hR
  refine R_iconst (v := 0) dX2_dressed_0 (by decide) ?_
  refine S_istore_n (ls1 := [.ref (A 8), .int 0, U_]) dX2_dressed_1 (by decide) rfl rfl ?_
  refine R_iconst (v := 0) dX2_dressed_2 (by decide) ?_
  refine S_istore_n (ls1 := [.ref (A 8), .int 0, .int 0]) dX2_dressed_3 (by decide) rfl rfl ?_
  exact h G l hp hB hR
theorem gc_X2_dressedt_4 {d : Nat} {v1 : Int32} {v2 : Int32} {c k : Nat} {ρ : Rho} {E : Hp → Prop} {A : Nat → Nat} {σ σ1 : Sg} {r : Option Value} (h : ((6 ≤ v2) → r = some (.int v1) ∧ σ1 = σ) ∧ ((¬ 6 ≤ v2) → vp_in v2 6 ∧ ((((σ.1 10 v2.toNatClampNeg) < 0) → Rv ρ E A mX2_dressed (d + 1) c k 4 [.ref (A 8), .int v1, .int (v2 + 1)] [] σ r σ1) ∧ ((¬ (σ.1 10 v2.toNatClampNeg) < 0) → Rv ρ E A mX2_dressed (d + 1) c k 4 [.ref (A 8), .int (v1 ||| (1 <<< (v2 &&& 31))), .int (v2 + 1)] [] σ r σ1)))) : Rv ρ E A mX2_dressed (d + 1) c k 4 [.ref (A 8), .int v1, .int v2] [] σ r σ1 := by
  intro G l hp hB hR
  refine R_iload_n dX2_dressed_4 rfl ?_
  refine R_bipush (v := 6) dX2_dressed_5 (by decide) ?_
  refine R_icmp_ge 31 dX2_dressed_7 (by decide) (fun c1 => ?_) (fun c1 => ?_)
  · replace h := h.1 c1
    refine R_iload_n dX2_dressed_31 rfl ?_
    exact R_iret dX2_dressed_32 rfl rfl ⟨h.1.symm, hp, hB, by rw [h.2]⟩
  · replace h := h.2 c1
    refine R_aload_n dX2_dressed_10 rfl ?_
    refine V_geta (o := 8) (q := 10) hB.1 dX2_dressed_11 fm_X2_15_3 ⟨by decide, by decide, rfl, rfl⟩ ?_
    refine R_iload_n dX2_dressed_14 rfl ?_
    have b2 := h.1
    replace h := h.2
    refine V_iald (o := 10) (x := σ.1 10 v2.toNatClampNeg) hB.1 dX2_dressed_15 ⟨by decide, rfl⟩ b2 rfl ?_
    refine R_if_lt 25 dX2_dressed_16 (by decide) (fun c3 => ?_) (fun c3 => ?_)
    · replace h := h.1 c3
      refine S_iinc (v := v2 + 1) (ls1 := [.ref (A 8), .int v1, .int (v2 + 1)]) dX2_dressed_25 rfl rfl (by decide) rfl rfl ?_
      refine R_goto 4 dX2_dressed_28 (by decide) ?_
      exact h G l hp hB hR
    · replace h := h.2 c3
      refine R_iload_n dX2_dressed_19 rfl ?_
      refine R_iconst (v := 1) dX2_dressed_20 (by decide) ?_
      refine R_iload_n dX2_dressed_21 rfl ?_
      refine R_ishl dX2_dressed_22 ?_
      refine R_ior dX2_dressed_23 ?_
      refine S_istore_n (ls1 := [.ref (A 8), .int (v1 ||| (1 <<< (v2 &&& 31))), .int v2]) dX2_dressed_24 (by decide) rfl rfl ?_
      refine S_iinc (v := v2 + 1) (ls1 := [.ref (A 8), .int (v1 ||| (1 <<< (v2 &&& 31))), .int (v2 + 1)]) dX2_dressed_25 rfl rfl (by decide) rfl rfl ?_
      refine R_goto 4 dX2_dressed_28 (by decide) ?_
      exact h G l hp hB hR
theorem gc_X2_exchangen_0 {d : Nat} {v1 : Int32} {v2 : Int32} {c k : Nat} {ρ : Rho} {E : Hp → Prop} {A : Nat → Nat} {σ σ1 : Sg} {r : Option Value} (h : vp_in v1 6 ∧ (vp_in v2 6 ∧ (r = none ∧ σ1 = (upA σ.1 3 (upd (upd (σ.1 3) v1.toNatClampNeg (σ.1 3 v2.toNatClampNeg)) v2.toNatClampNeg (σ.1 3 v1.toNatClampNeg)), σ.2)))) : Rv ρ E A mX2_exchange (d + 1) c k 0 [.ref (A 1), .int v1, .int v2, U_] [] σ r σ1 := by
  intro G l hp hB hR
  refine R_aload_n dX2_exchange_0 rfl ?_
  refine V_geta (o := 1) (q := 3) hB.1 dX2_exchange_1 fm_X2_15_3 ⟨by decide, by decide, rfl, rfl⟩ ?_
  refine R_iload_n dX2_exchange_4 rfl ?_
  have b1 := h.1
  replace h := h.2
  refine V_iald (o := 3) (x := σ.1 3 v1.toNatClampNeg) hB.1 dX2_exchange_5 ⟨by decide, rfl⟩ b1 rfl ?_
  refine S_istore_n (ls1 := [.ref (A 1), .int v1, .int v2, .int (σ.1 3 v1.toNatClampNeg)]) dX2_exchange_6 (by decide) rfl rfl ?_
  refine R_aload_n dX2_exchange_7 rfl ?_
  refine V_geta (o := 1) (q := 3) hB.1 dX2_exchange_8 fm_X2_15_3 ⟨by decide, by decide, rfl, rfl⟩ ?_
  refine R_iload_n dX2_exchange_11 rfl ?_
  refine R_aload_n dX2_exchange_12 rfl ?_
  refine V_geta (o := 1) (q := 3) hB.1 dX2_exchange_13 fm_X2_15_3 ⟨by decide, by decide, rfl, rfl⟩ ?_
  refine R_iload_n dX2_exchange_16 rfl ?_
  have b2 := h.1
  replace h := h.2
  refine V_iald (o := 3) (x := σ.1 3 v2.toNatClampNeg) hB.1 dX2_exchange_17 ⟨by decide, rfl⟩ b2 rfl ?_
  refine V_iast (o := 3) (σ9 := (upA σ.1 3 (upd (σ.1 3) v1.toNatClampNeg (σ.1 3 v2.toNatClampNeg)), σ.2)) hB.1 dX2_exchange_18 ⟨by decide, rfl⟩ b1 rfl ?_
  refine R_aload_n dX2_exchange_19 rfl ?_
  refine V_geta (o := 1) (q := 3) hB.1 dX2_exchange_20 fm_X2_15_3 ⟨by decide, by decide, rfl, rfl⟩ ?_
  refine R_iload_n dX2_exchange_23 rfl ?_
  refine R_iload_n dX2_exchange_24 rfl ?_
  refine V_iast (o := 3) (σ9 := (upA σ.1 3 (upd (upd (σ.1 3) v1.toNatClampNeg (σ.1 3 v2.toNatClampNeg)) v2.toNatClampNeg (σ.1 3 v1.toNatClampNeg)), σ.2)) hB.1 dX2_exchange_25 ⟨by decide, rfl⟩ b2 (up8c σ.1 3 (upd (σ.1 3) v1.toNatClampNeg (σ.1 3 v2.toNatClampNeg)) (upd (upd (σ.1 3) v1.toNatClampNeg (σ.1 3 v2.toNatClampNeg)) v2.toNatClampNeg (σ.1 3 v1.toNatClampNeg)) σ.2) ?_
  exact R_vret dX2_exchange_26 rfl ⟨h.1.symm, hp, hB, by rw [h.2]⟩
theorem gc_X2_exchanget_0 {d : Nat} {v1 : Int32} {v2 : Int32} {c k : Nat} {ρ : Rho} {E : Hp → Prop} {A : Nat → Nat} {σ σ1 : Sg} {r : Option Value} (h : vp_in v1 6 ∧ (vp_in v2 6 ∧ (r = none ∧ σ1 = (upA σ.1 10 (upd (upd (σ.1 10) v1.toNatClampNeg (σ.1 10 v2.toNatClampNeg)) v2.toNatClampNeg (σ.1 10 v1.toNatClampNeg)), σ.2)))) : Rv ρ E A mX2_exchange (d + 1) c k 0 [.ref (A 8), .int v1, .int v2, U_] [] σ r σ1 := by
  intro G l hp hB hR
  refine R_aload_n dX2_exchange_0 rfl ?_
  refine V_geta (o := 8) (q := 10) hB.1 dX2_exchange_1 fm_X2_15_3 ⟨by decide, by decide, rfl, rfl⟩ ?_
  refine R_iload_n dX2_exchange_4 rfl ?_
  have b1 := h.1
  replace h := h.2
  refine V_iald (o := 10) (x := σ.1 10 v1.toNatClampNeg) hB.1 dX2_exchange_5 ⟨by decide, rfl⟩ b1 rfl ?_
  refine S_istore_n (ls1 := [.ref (A 8), .int v1, .int v2, .int (σ.1 10 v1.toNatClampNeg)]) dX2_exchange_6 (by decide) rfl rfl ?_
  refine R_aload_n dX2_exchange_7 rfl ?_
  refine V_geta (o := 8) (q := 10) hB.1 dX2_exchange_8 fm_X2_15_3 ⟨by decide, by decide, rfl, rfl⟩ ?_
  refine R_iload_n dX2_exchange_11 rfl ?_
  refine R_aload_n dX2_exchange_12 rfl ?_
  refine V_geta (o := 8) (q := 10) hB.1 dX2_exchange_13 fm_X2_15_3 ⟨by decide, by decide, rfl, rfl⟩ ?_
  refine R_iload_n dX2_exchange_16 rfl ?_
  have b2 := h.1
  replace h := h.2
  refine V_iald (o := 10) (x := σ.1 10 v2.toNatClampNeg) hB.1 dX2_exchange_17 ⟨by decide, rfl⟩ b2 rfl ?_
  refine V_iast (o := 10) (σ9 := (upA σ.1 10 (upd (σ.1 10) v1.toNatClampNeg (σ.1 10 v2.toNatClampNeg)), σ.2)) hB.1 dX2_exchange_18 ⟨by decide, rfl⟩ b1 rfl ?_
  refine R_aload_n dX2_exchange_19 rfl ?_
  refine V_geta (o := 8) (q := 10) hB.1 dX2_exchange_20 fm_X2_15_3 ⟨by decide, by decide, rfl, rfl⟩ ?_
  refine R_iload_n dX2_exchange_23 rfl ?_
  refine R_iload_n dX2_exchange_24 rfl ?_
  refine V_iast (o := 10) (σ9 := (upA σ.1 10 (upd (upd (σ.1 10) v1.toNatClampNeg (σ.1 10 v2.toNatClampNeg)) v2.toNatClampNeg (σ.1 10 v1.toNatClampNeg)), σ.2)) hB.1 dX2_exchange_25 ⟨by decide, rfl⟩ b2 (up8c σ.1 10 (upd (σ.1 10) v1.toNatClampNeg (σ.1 10 v2.toNatClampNeg)) (upd (upd (σ.1 10) v1.toNatClampNeg (σ.1 10 v2.toNatClampNeg)) v2.toNatClampNeg (σ.1 10 v1.toNatClampNeg)) σ.2) ?_
  exact R_vret dX2_exchange_26 rfl ⟨h.1.symm, hp, hB, by rw [h.2]⟩
theorem gc_X2_oftn_0 {d : Nat} {c k : Nat} {ρ : Rho} {E : Hp → Prop} {A : Nat → Nat} {σ σ1 : Sg} {r : Option Value} (h : r = none ∧ σ1 = (upA (upA (upA (upA (upA (upA (upA σ.1 9 (va_cpy (σ.1 2) (σ.1 9) 0 0 6)) 10 (va_cpy (σ.1 3) (σ.1 10) 0 0 6)) 11 (va_cpy (σ.1 4) (σ.1 11) 0 0 6)) 12 (va_cpy (σ.1 5) (σ.1 12) 0 0 6)) 13 (va_cpy (σ.1 6) (σ.1 13) 0 0 6)) 14 (va_cpy (σ.1 7) (σ.1 14) 0 0 6)) 8 (upd (upd (upd (σ.1 8) 6 (σ.1 1 6)) 7 (σ.1 1 7)) 8 (σ.1 1 8)), σ.2)) : Rv ρ E A mX2_of (d + 1) c k 0 [.ref (A 8), .ref (A 1)] [] σ r σ1 := by
  intro G l hp hB hR
  refine R_aload_n dX2_of_0 rfl ?_
  refine V_geta (o := 1) (q := 2) hB.1 dX2_of_1 fm_X2_9_3 ⟨by decide, by decide, rfl, rfl⟩ ?_
  refine R_iconst (v := 0) dX2_of_4 (by decide) ?_
  refine R_aload_n dX2_of_5 rfl ?_
  refine V_geta (o := 8) (q := 9) hB.1 dX2_of_6 fm_X2_9_3 ⟨by decide, by decide, rfl, rfl⟩ ?_
  refine R_iconst (v := 0) dX2_of_9 (by decide) ?_
  refine R_bipush (v := 6) dX2_of_10 (by decide) ?_
  refine V_copy (o := 2) (q := 9) (σ9 := (upA σ.1 9 (va_cpy (σ.1 2) (σ.1 9) 0 0 6), σ.2)) hB.1 dX2_of_12 q1090 (by decide) (by decide) ⟨by decide, rfl, by decide, rfl⟩ (Nat.le_of_ble_eq_true rfl) rfl ?_
  refine R_aload_n dX2_of_15 rfl ?_
  refine V_geta (o := 1) (q := 3) hB.1 dX2_of_16 fm_X2_15_3 ⟨by decide, by decide, rfl, rfl⟩ ?_
  refine R_iconst (v := 0) dX2_of_19 (by decide) ?_
  refine R_aload_n dX2_of_20 rfl ?_
  refine V_geta (o := 8) (q := 10) hB.1 dX2_of_21 fm_X2_15_3 ⟨by decide, by decide, rfl, rfl⟩ ?_
  refine R_iconst (v := 0) dX2_of_24 (by decide) ?_
  refine R_bipush (v := 6) dX2_of_25 (by decide) ?_
  refine V_copy (o := 3) (q := 10) (σ9 := (upA (upA σ.1 9 (va_cpy (σ.1 2) (σ.1 9) 0 0 6)) 10 (va_cpy (σ.1 3) (σ.1 10) 0 0 6), σ.2)) hB.1 dX2_of_27 q1090 (by decide) (by decide) ⟨by decide, rfl, by decide, rfl⟩ (Nat.le_of_ble_eq_true rfl) rfl ?_
  refine R_aload_n dX2_of_30 rfl ?_
  refine V_geta (o := 1) (q := 4) hB.1 dX2_of_31 fm_X2_18_3 ⟨by decide, by decide, rfl, rfl⟩ ?_
  refine R_iconst (v := 0) dX2_of_34 (by decide) ?_
  refine R_aload_n dX2_of_35 rfl ?_
  refine V_geta (o := 8) (q := 11) hB.1 dX2_of_36 fm_X2_18_3 ⟨by decide, by decide, rfl, rfl⟩ ?_
  refine R_iconst (v := 0) dX2_of_39 (by decide) ?_
  refine R_bipush (v := 6) dX2_of_40 (by decide) ?_
  refine V_copy (o := 4) (q := 11) (σ9 := (upA (upA (upA σ.1 9 (va_cpy (σ.1 2) (σ.1 9) 0 0 6)) 10 (va_cpy (σ.1 3) (σ.1 10) 0 0 6)) 11 (va_cpy (σ.1 4) (σ.1 11) 0 0 6), σ.2)) hB.1 dX2_of_42 q1090 (by decide) (by decide) ⟨by decide, rfl, by decide, rfl⟩ (Nat.le_of_ble_eq_true rfl) rfl ?_
  refine R_aload_n dX2_of_45 rfl ?_
  refine V_geta (o := 1) (q := 5) hB.1 dX2_of_46 fm_X2_21_3 ⟨by decide, by decide, rfl, rfl⟩ ?_
  refine R_iconst (v := 0) dX2_of_49 (by decide) ?_
  refine R_aload_n dX2_of_50 rfl ?_
  refine V_geta (o := 8) (q := 12) hB.1 dX2_of_51 fm_X2_21_3 ⟨by decide, by decide, rfl, rfl⟩ ?_
  refine R_iconst (v := 0) dX2_of_54 (by decide) ?_
  refine R_bipush (v := 6) dX2_of_55 (by decide) ?_
  refine V_copy (o := 5) (q := 12) (σ9 := (upA (upA (upA (upA σ.1 9 (va_cpy (σ.1 2) (σ.1 9) 0 0 6)) 10 (va_cpy (σ.1 3) (σ.1 10) 0 0 6)) 11 (va_cpy (σ.1 4) (σ.1 11) 0 0 6)) 12 (va_cpy (σ.1 5) (σ.1 12) 0 0 6), σ.2)) hB.1 dX2_of_57 q1090 (by decide) (by decide) ⟨by decide, rfl, by decide, rfl⟩ (Nat.le_of_ble_eq_true rfl) rfl ?_
  refine R_aload_n dX2_of_60 rfl ?_
  refine V_geta (o := 1) (q := 6) hB.1 dX2_of_61 fm_X2_24_3 ⟨by decide, by decide, rfl, rfl⟩ ?_
  refine R_iconst (v := 0) dX2_of_64 (by decide) ?_
  refine R_aload_n dX2_of_65 rfl ?_
  refine V_geta (o := 8) (q := 13) hB.1 dX2_of_66 fm_X2_24_3 ⟨by decide, by decide, rfl, rfl⟩ ?_
  refine R_iconst (v := 0) dX2_of_69 (by decide) ?_
  refine R_bipush (v := 6) dX2_of_70 (by decide) ?_
  refine V_copy (o := 6) (q := 13) (σ9 := (upA (upA (upA (upA (upA σ.1 9 (va_cpy (σ.1 2) (σ.1 9) 0 0 6)) 10 (va_cpy (σ.1 3) (σ.1 10) 0 0 6)) 11 (va_cpy (σ.1 4) (σ.1 11) 0 0 6)) 12 (va_cpy (σ.1 5) (σ.1 12) 0 0 6)) 13 (va_cpy (σ.1 6) (σ.1 13) 0 0 6), σ.2)) hB.1 dX2_of_72 q1090 (by decide) (by decide) ⟨by decide, rfl, by decide, rfl⟩ (Nat.le_of_ble_eq_true rfl) rfl ?_
  refine R_aload_n dX2_of_75 rfl ?_
  refine V_geta (o := 1) (q := 7) hB.1 dX2_of_76 fm_X2_27_3 ⟨by decide, by decide, rfl, rfl⟩ ?_
  refine R_iconst (v := 0) dX2_of_79 (by decide) ?_
  refine R_aload_n dX2_of_80 rfl ?_
  refine V_geta (o := 8) (q := 14) hB.1 dX2_of_81 fm_X2_27_3 ⟨by decide, by decide, rfl, rfl⟩ ?_
  refine R_iconst (v := 0) dX2_of_84 (by decide) ?_
  refine R_bipush (v := 6) dX2_of_85 (by decide) ?_
  refine V_copy (o := 7) (q := 14) (σ9 := (upA (upA (upA (upA (upA (upA σ.1 9 (va_cpy (σ.1 2) (σ.1 9) 0 0 6)) 10 (va_cpy (σ.1 3) (σ.1 10) 0 0 6)) 11 (va_cpy (σ.1 4) (σ.1 11) 0 0 6)) 12 (va_cpy (σ.1 5) (σ.1 12) 0 0 6)) 13 (va_cpy (σ.1 6) (σ.1 13) 0 0 6)) 14 (va_cpy (σ.1 7) (σ.1 14) 0 0 6), σ.2)) hB.1 dX2_of_87 q1090 (by decide) (by decide) ⟨by decide, rfl, by decide, rfl⟩ (Nat.le_of_ble_eq_true rfl) rfl ?_
  refine R_aload_n dX2_of_90 rfl ?_
  refine R_aload_n dX2_of_91 rfl ?_
  refine V_get (o := 1) (x := σ.1 1 6) hB.1 dX2_of_92 fm_X2_36_3 ⟨by decide, by decide, rfl, rfl⟩ rfl ?_
  refine V_put (o := 8) (σ9 := (upA (upA (upA (upA (upA (upA (upA σ.1 9 (va_cpy (σ.1 2) (σ.1 9) 0 0 6)) 10 (va_cpy (σ.1 3) (σ.1 10) 0 0 6)) 11 (va_cpy (σ.1 4) (σ.1 11) 0 0 6)) 12 (va_cpy (σ.1 5) (σ.1 12) 0 0 6)) 13 (va_cpy (σ.1 6) (σ.1 13) 0 0 6)) 14 (va_cpy (σ.1 7) (σ.1 14) 0 0 6)) 8 (upd (σ.1 8) 6 (σ.1 1 6)), σ.2)) hB.1 dX2_of_95 fm_X2_36_3 ft_3_6 rfl rfl ⟨by decide, by decide, rfl, rfl⟩ rfl ?_
  refine R_aload_n dX2_of_98 rfl ?_
  refine R_aload_n dX2_of_99 rfl ?_
  refine V_get (o := 1) (x := σ.1 1 7) hB.1 dX2_of_100 fm_X2_40_3 ⟨by decide, by decide, rfl, rfl⟩ rfl ?_
  refine V_put (o := 8) (σ9 := (upA (upA (upA (upA (upA (upA (upA σ.1 9 (va_cpy (σ.1 2) (σ.1 9) 0 0 6)) 10 (va_cpy (σ.1 3) (σ.1 10) 0 0 6)) 11 (va_cpy (σ.1 4) (σ.1 11) 0 0 6)) 12 (va_cpy (σ.1 5) (σ.1 12) 0 0 6)) 13 (va_cpy (σ.1 6) (σ.1 13) 0 0 6)) 14 (va_cpy (σ.1 7) (σ.1 14) 0 0 6)) 8 (upd (upd (σ.1 8) 6 (σ.1 1 6)) 7 (σ.1 1 7)), σ.2)) hB.1 dX2_of_103 fm_X2_40_3 ft_3_7 rfl rfl ⟨by decide, by decide, rfl, rfl⟩ (up8c (upA (upA (upA (upA (upA (upA σ.1 9 (va_cpy (σ.1 2) (σ.1 9) 0 0 6)) 10 (va_cpy (σ.1 3) (σ.1 10) 0 0 6)) 11 (va_cpy (σ.1 4) (σ.1 11) 0 0 6)) 12 (va_cpy (σ.1 5) (σ.1 12) 0 0 6)) 13 (va_cpy (σ.1 6) (σ.1 13) 0 0 6)) 14 (va_cpy (σ.1 7) (σ.1 14) 0 0 6)) 8 (upd (σ.1 8) 6 (σ.1 1 6)) (upd (upd (σ.1 8) 6 (σ.1 1 6)) 7 (σ.1 1 7)) σ.2) ?_
  refine R_aload_n dX2_of_106 rfl ?_
  refine R_aload_n dX2_of_107 rfl ?_
  refine V_get (o := 1) (x := σ.1 1 8) hB.1 dX2_of_108 fm_X2_43_3 ⟨by decide, by decide, rfl, rfl⟩ rfl ?_
  refine V_put (o := 8) (σ9 := (upA (upA (upA (upA (upA (upA (upA σ.1 9 (va_cpy (σ.1 2) (σ.1 9) 0 0 6)) 10 (va_cpy (σ.1 3) (σ.1 10) 0 0 6)) 11 (va_cpy (σ.1 4) (σ.1 11) 0 0 6)) 12 (va_cpy (σ.1 5) (σ.1 12) 0 0 6)) 13 (va_cpy (σ.1 6) (σ.1 13) 0 0 6)) 14 (va_cpy (σ.1 7) (σ.1 14) 0 0 6)) 8 (upd (upd (upd (σ.1 8) 6 (σ.1 1 6)) 7 (σ.1 1 7)) 8 (σ.1 1 8)), σ.2)) hB.1 dX2_of_111 fm_X2_43_3 ft_3_8 rfl rfl ⟨by decide, by decide, rfl, rfl⟩ (up8c (upA (upA (upA (upA (upA (upA σ.1 9 (va_cpy (σ.1 2) (σ.1 9) 0 0 6)) 10 (va_cpy (σ.1 3) (σ.1 10) 0 0 6)) 11 (va_cpy (σ.1 4) (σ.1 11) 0 0 6)) 12 (va_cpy (σ.1 5) (σ.1 12) 0 0 6)) 13 (va_cpy (σ.1 6) (σ.1 13) 0 0 6)) 14 (va_cpy (σ.1 7) (σ.1 14) 0 0 6)) 8 (upd (upd (σ.1 8) 6 (σ.1 1 6)) 7 (σ.1 1 7)) (upd (upd (upd (σ.1 8) 6 (σ.1 1 6)) 7 (σ.1 1 7)) 8 (σ.1 1 8)) σ.2) ?_
  exact R_vret dX2_of_114 rfl ⟨h.1.symm, hp, hB, by rw [h.2]⟩
theorem gc_X2_wearern_0 {d : Nat} {v1 : Int32} {c k : Nat} {ρ : Rho} {E : Hp → Prop} {A : Nat → Nat} {σ σ1 : Sg} {r : Option Value} (h : Rv ρ E A mX2_wearer (d + 1) c k 2 [.ref (A 1), .int v1, .int 0] [] σ r σ1) : Rv ρ E A mX2_wearer (d + 1) c k 0 [.ref (A 1), .int v1, U_] [] σ r σ1 := by
  intro G l hp hB hR
  refine R_iconst (v := 0) dX2_wearer_0 (by decide) ?_
  refine S_istore_n (ls1 := [.ref (A 1), .int v1, .int 0]) dX2_wearer_1 (by decide) rfl rfl ?_
  exact h G l hp hB hR
theorem gc_X2_wearern_2 {d : Nat} {v1 : Int32} {v2 : Int32} {c k : Nat} {ρ : Rho} {E : Hp → Prop} {A : Nat → Nat} {σ σ1 : Sg} {r : Option Value} (h : ((6 ≤ v2) → r = some (.int (-1)) ∧ σ1 = σ) ∧ ((¬ 6 ≤ v2) → vp_in v2 6 ∧ (((¬ (σ.1 3 v2.toNatClampNeg) = v1) → Rv ρ E A mX2_wearer (d + 1) c k 2 [.ref (A 1), .int v1, .int (v2 + 1)] [] σ r σ1) ∧ (((σ.1 3 v2.toNatClampNeg) = v1) → r = some (.int v2) ∧ σ1 = σ)))) : Rv ρ E A mX2_wearer (d + 1) c k 2 [.ref (A 1), .int v1, .int v2] [] σ r σ1 := by
  intro G l hp hB hR
  refine R_iload_n dX2_wearer_2 rfl ?_
  refine R_bipush (v := 6) dX2_wearer_3 (by decide) ?_
  refine R_icmp_ge 26 dX2_wearer_5 (by decide) (fun c1 => ?_) (fun c1 => ?_)
  · replace h := h.1 c1
    refine R_iconst (v := (-1)) dX2_wearer_26 (by decide) ?_
    exact R_iret dX2_wearer_27 rfl rfl ⟨h.1.symm, hp, hB, by rw [h.2]⟩
  · replace h := h.2 c1
    refine R_aload_n dX2_wearer_8 rfl ?_
    refine V_geta (o := 1) (q := 3) hB.1 dX2_wearer_9 fm_X2_15_3 ⟨by decide, by decide, rfl, rfl⟩ ?_
    refine R_iload_n dX2_wearer_12 rfl ?_
    have b2 := h.1
    replace h := h.2
    refine V_iald (o := 3) (x := σ.1 3 v2.toNatClampNeg) hB.1 dX2_wearer_13 ⟨by decide, rfl⟩ b2 rfl ?_
    refine R_iload_n dX2_wearer_14 rfl ?_
    refine R_icmp_ne 20 dX2_wearer_15 (by decide) (fun c3 => ?_) (fun c3 => ?_)
    · replace h := h.1 c3
      refine S_iinc (v := v2 + 1) (ls1 := [.ref (A 1), .int v1, .int (v2 + 1)]) dX2_wearer_20 rfl rfl (by decide) rfl rfl ?_
      refine R_goto 2 dX2_wearer_23 (by decide) ?_
      exact h G l hp hB hR
    · replace h := h.2 c3
      refine R_iload_n dX2_wearer_18 rfl ?_
      exact R_iret dX2_wearer_19 rfl rfl ⟨h.1.symm, hp, hB, by rw [h.2]⟩
theorem gc_X2_wearert_0 {d : Nat} {v1 : Int32} {c k : Nat} {ρ : Rho} {E : Hp → Prop} {A : Nat → Nat} {σ σ1 : Sg} {r : Option Value} (h : Rv ρ E A mX2_wearer (d + 1) c k 2 [.ref (A 8), .int v1, .int 0] [] σ r σ1) : Rv ρ E A mX2_wearer (d + 1) c k 0 [.ref (A 8), .int v1, U_] [] σ r σ1 := by
  intro G l hp hB hR
  refine R_iconst (v := 0) dX2_wearer_0 (by decide) ?_
  refine S_istore_n (ls1 := [.ref (A 8), .int v1, .int 0]) dX2_wearer_1 (by decide) rfl rfl ?_
  exact h G l hp hB hR
theorem gc_X2_wearert_2 {d : Nat} {v1 : Int32} {v2 : Int32} {c k : Nat} {ρ : Rho} {E : Hp → Prop} {A : Nat → Nat} {σ σ1 : Sg} {r : Option Value} (h : ((6 ≤ v2) → r = some (.int (-1)) ∧ σ1 = σ) ∧ ((¬ 6 ≤ v2) → vp_in v2 6 ∧ (((¬ (σ.1 10 v2.toNatClampNeg) = v1) → Rv ρ E A mX2_wearer (d + 1) c k 2 [.ref (A 8), .int v1, .int (v2 + 1)] [] σ r σ1) ∧ (((σ.1 10 v2.toNatClampNeg) = v1) → r = some (.int v2) ∧ σ1 = σ)))) : Rv ρ E A mX2_wearer (d + 1) c k 2 [.ref (A 8), .int v1, .int v2] [] σ r σ1 := by
  intro G l hp hB hR
  refine R_iload_n dX2_wearer_2 rfl ?_
  refine R_bipush (v := 6) dX2_wearer_3 (by decide) ?_
  refine R_icmp_ge 26 dX2_wearer_5 (by decide) (fun c1 => ?_) (fun c1 => ?_)
  · replace h := h.1 c1
    refine R_iconst (v := (-1)) dX2_wearer_26 (by decide) ?_
    exact R_iret dX2_wearer_27 rfl rfl ⟨h.1.symm, hp, hB, by rw [h.2]⟩
  · replace h := h.2 c1
    refine R_aload_n dX2_wearer_8 rfl ?_
    refine V_geta (o := 8) (q := 10) hB.1 dX2_wearer_9 fm_X2_15_3 ⟨by decide, by decide, rfl, rfl⟩ ?_
    refine R_iload_n dX2_wearer_12 rfl ?_
    have b2 := h.1
    replace h := h.2
    refine V_iald (o := 10) (x := σ.1 10 v2.toNatClampNeg) hB.1 dX2_wearer_13 ⟨by decide, rfl⟩ b2 rfl ?_
    refine R_iload_n dX2_wearer_14 rfl ?_
    refine R_icmp_ne 20 dX2_wearer_15 (by decide) (fun c3 => ?_) (fun c3 => ?_)
    · replace h := h.1 c3
      refine S_iinc (v := v2 + 1) (ls1 := [.ref (A 8), .int v1, .int (v2 + 1)]) dX2_wearer_20 rfl rfl (by decide) rfl rfl ?_
      refine R_goto 2 dX2_wearer_23 (by decide) ?_
      exact h G l hp hB hR
    · replace h := h.2 c3
      refine R_iload_n dX2_wearer_18 rfl ?_
      exact R_iret dX2_wearer_19 rfl rfl ⟨h.1.symm, hp, hB, by rw [h.2]⟩
theorem gc_X0_coats_0 {d : Nat} {c k : Nat} {ρ : Rho} {E : Hp → Prop} {A : Nat → Nat} {σ σ1 : Sg} {r : Option Value} (h : r = some (.int (nI (ρ.1 1))) ∧ σ1 = σ) : Rv ρ E A mX0_coats (d + 2) c k 0 [.ref (A 0)] [] σ r σ1 := by
  intro G l hp hB hR
  refine R_aload_n dX0_coats_0 rfl ?_
  refine V_getr (o := 0) (v := .ref (ρ.1 2)) hB.1 dX0_coats_1 fm_X0_19_1 ⟨by decide, by decide, rfl, rfl⟩ hR ?_
  refine V_rget (v := .ref (ρ.1 5)) hB dX0_coats_4 fm_X0_140_2 rfl ?_
  refine V_size (w := 1) hB (by decide) dX0_coats_7 cv_X0_121 (Nat.le_of_ble_eq_true rfl) ?_
  exact R_iret dX0_coats_10 rfl rfl ⟨h.1.symm, hp, hB, by rw [h.2]⟩
theorem gc_X0_feed_0 {d : Nat} {v1 : Int32} {v2 : Int32} {v3 : Int32} {v4 : Int32} {v5 : Int32} {c k : Nat} {ρ : Rho} {E : Hp → Prop} {A : Nat → Nat} {σ σ1 : Sg} {r : Option Value} (h : ((((σ.1 0 5) + 20) ≤ 1600) → ∃ (σ_2 : Sg), Tv ρ E A mX0_bytes (d + 1) 0 0 [.ref (A 0), .int v1] σ none σ_2 ∧ (∃ (σ_4 : Sg), Tv ρ E A mX0_bytes (d + 1) 0 0 [.ref (A 0), .int v2] σ_2 none σ_4 ∧ (∃ (σ_6 : Sg), Tv ρ E A mX0_bytes (d + 1) 0 0 [.ref (A 0), .int v3] σ_4 none σ_6 ∧ (∃ (σ_8 : Sg), Tv ρ E A mX0_bytes (d + 1) 0 0 [.ref (A 0), .int v4] σ_6 none σ_8 ∧ (∃ (σ_10 : Sg), Tv ρ E A mX0_bytes (d + 1) 0 0 [.ref (A 0), .int v5] σ_8 none σ_10 ∧ (r = some (.int (σ_10.1 0 5)) ∧ σ1 = σ_10)))))) ∧ ((¬ ((σ.1 0 5) + 20) ≤ 1600) → r = some (.int (-1)) ∧ σ1 = σ)) : Rv ρ E A mX0_feed (d + 2) c k 0 [.ref (A 0), .int v1, .int v2, .int v3, .int v4, .int v5] [] σ r σ1 := by
  intro G l hp hB hR
  refine R_aload_n dX0_feed_0 rfl ?_
  refine V_get (o := 0) (x := σ.1 0 5) hB.1 dX0_feed_1 fm_X0_151_1 ⟨by decide, by decide, rfl, rfl⟩ rfl ?_
  refine R_bipush (v := 20) dX0_feed_4 (by decide) ?_
  refine R_iadd dX0_feed_6 ?_
  refine R_sipush (v := 1600) dX0_feed_7 (by decide) ?_
  refine R_icmp_le 15 dX0_feed_10 (by decide) (fun c1 => ?_) (fun c1 => ?_)
  · replace h := h.1 c1
    refine R_aload_n dX0_feed_15 rfl ?_
    refine R_iload_n dX0_feed_16 rfl ?_
    obtain ⟨σ_2, e3, h⟩ := h
    refine V_call (o := 0) [.int v1] hB hR dX0_feed_17 cv_X0_154 rfl rfl (Nat.le_of_ble_eq_true rfl) ⟨by decide, rfl⟩ rfl e3 (Nat.zero_le _) (Nat.zero_le _) (fun hp hB => ?_)
    show RnH [] G l mX0_feed (d + 2) (PV ρ E A r σ1) noX 20 [.ref (A 0), .int v1, .int v2, .int v3, .int v4, .int v5] [] (ov rgM A σ_2 hp) c k
    have hR : σ_2.2.2 0 0 = .ref (ρ.1 2) := by rw [e3.1]; exact hR
    refine R_aload_n dX0_feed_20 rfl ?_
    refine R_iload_n dX0_feed_21 rfl ?_
    obtain ⟨σ_4, e5, h⟩ := h
    refine V_call (o := 0) [.int v2] hB hR dX0_feed_22 cv_X0_154 rfl rfl (Nat.le_of_ble_eq_true rfl) ⟨by decide, rfl⟩ rfl e5 (Nat.zero_le _) (Nat.zero_le _) (fun hp hB => ?_)
    show RnH [] G l mX0_feed (d + 2) (PV ρ E A r σ1) noX 25 [.ref (A 0), .int v1, .int v2, .int v3, .int v4, .int v5] [] (ov rgM A σ_4 hp) c k
    have hR : σ_4.2.2 0 0 = .ref (ρ.1 2) := by rw [e5.1]; exact hR
    refine R_aload_n dX0_feed_25 rfl ?_
    refine R_iload_n dX0_feed_26 rfl ?_
    obtain ⟨σ_6, e7, h⟩ := h
    refine V_call (o := 0) [.int v3] hB hR dX0_feed_27 cv_X0_154 rfl rfl (Nat.le_of_ble_eq_true rfl) ⟨by decide, rfl⟩ rfl e7 (Nat.zero_le _) (Nat.zero_le _) (fun hp hB => ?_)
    show RnH [] G l mX0_feed (d + 2) (PV ρ E A r σ1) noX 30 [.ref (A 0), .int v1, .int v2, .int v3, .int v4, .int v5] [] (ov rgM A σ_6 hp) c k
    have hR : σ_6.2.2 0 0 = .ref (ρ.1 2) := by rw [e7.1]; exact hR
    refine R_aload_n dX0_feed_30 rfl ?_
    refine R_iload dX0_feed_31 rfl ?_
    obtain ⟨σ_8, e9, h⟩ := h
    refine V_call (o := 0) [.int v4] hB hR dX0_feed_33 cv_X0_154 rfl rfl (Nat.le_of_ble_eq_true rfl) ⟨by decide, rfl⟩ rfl e9 (Nat.zero_le _) (Nat.zero_le _) (fun hp hB => ?_)
    show RnH [] G l mX0_feed (d + 2) (PV ρ E A r σ1) noX 36 [.ref (A 0), .int v1, .int v2, .int v3, .int v4, .int v5] [] (ov rgM A σ_8 hp) c k
    have hR : σ_8.2.2 0 0 = .ref (ρ.1 2) := by rw [e9.1]; exact hR
    refine R_aload_n dX0_feed_36 rfl ?_
    refine R_iload dX0_feed_37 rfl ?_
    obtain ⟨σ_10, e11, h⟩ := h
    refine V_call (o := 0) [.int v5] hB hR dX0_feed_39 cv_X0_154 rfl rfl (Nat.le_of_ble_eq_true rfl) ⟨by decide, rfl⟩ rfl e11 (Nat.zero_le _) (Nat.zero_le _) (fun hp hB => ?_)
    show RnH [] G l mX0_feed (d + 2) (PV ρ E A r σ1) noX 42 [.ref (A 0), .int v1, .int v2, .int v3, .int v4, .int v5] [] (ov rgM A σ_10 hp) c k
    have hR : σ_10.2.2 0 0 = .ref (ρ.1 2) := by rw [e11.1]; exact hR
    refine R_aload_n dX0_feed_42 rfl ?_
    refine V_get (o := 0) (x := σ_10.1 0 5) hB.1 dX0_feed_43 fm_X0_151_1 ⟨by decide, by decide, rfl, rfl⟩ rfl ?_
    exact R_iret dX0_feed_46 rfl rfl ⟨h.1.symm, hp, hB, by rw [h.2]⟩
  · replace h := h.2 c1
    refine R_iconst (v := (-1)) dX0_feed_13 (by decide) ?_
    exact R_iret dX0_feed_14 rfl rfl ⟨h.1.symm, hp, hB, by rw [h.2]⟩
theorem gc_X0_lies_0 {d : Nat} {v1 : Int32} {c k : Nat} {ρ : Rho} {E : Hp → Prop} {A : Nat → Nat} {σ σ1 : Sg} {r : Option Value} (h : (((s0_isIn v1 0 ((σ.1 0 13) - 1)) = 0) → r = some (.int (-2)) ∧ σ1 = σ) ∧ ((¬ (s0_isIn v1 0 ((σ.1 0 13) - 1)) = 0) → vp_in v1 6 ∧ (r = some (.int (σ.1 19 v1.toNatClampNeg)) ∧ σ1 = σ))) : Rv ρ E A mX0_lies (d + 2) c k 0 [.ref (A 0), .int v1] [] σ r σ1 := by
  intro G l hp hB hR
  refine R_iload_n dX0_lies_0 rfl ?_
  refine R_iconst (v := 0) dX0_lies_1 (by decide) ?_
  refine R_aload_n dX0_lies_2 rfl ?_
  refine V_get (o := 0) (x := σ.1 0 13) hB.1 dX0_lies_3 fm_X0_112_1 ⟨by decide, by decide, rfl, rfl⟩ rfl ?_
  refine R_iconst (v := 1) dX0_lies_6 (by decide) ?_
  refine R_isub dX0_lies_7 ?_
  refine V_callS [.int v1, .int 0, .int ((σ.1 0 13) - 1)] dX0_lies_8 cs_X0_145 rfl rfl (Nat.le_of_ble_eq_true rfl) (s0t_isIn (d + 0) v1 0 ((σ.1 0 13) - 1)) ?_
  show RnH [] G l mX0_lies (d + 2) (PV ρ E A r σ1) noX 11 [.ref (A 0), .int v1] [.int (s0_isIn v1 0 ((σ.1 0 13) - 1))] (ov rgM A σ hp) c k
  refine R_if_eq 23 dX0_lies_11 (by decide) (fun c1 => ?_) (fun c1 => ?_)
  · replace h := h.1 c1
    refine R_bipush (v := (-2)) dX0_lies_23 (by decide) ?_
    exact R_iret dX0_lies_25 rfl rfl ⟨h.1.symm, hp, hB, by rw [h.2]⟩
  · replace h := h.2 c1
    refine R_aload_n dX0_lies_14 rfl ?_
    refine V_geta (o := 0) (q := 19) hB.1 dX0_lies_15 fm_X0_60_1 ⟨by decide, by decide, rfl, rfl⟩ ?_
    refine R_iload_n dX0_lies_18 rfl ?_
    have b2 := h.1
    replace h := h.2
    refine V_iald (o := 19) (x := σ.1 19 v1.toNatClampNeg) hB.1 dX0_lies_19 ⟨by decide, rfl⟩ b2 rfl ?_
    refine R_goto 25 dX0_lies_20 (by decide) ?_
    exact R_iret dX0_lies_25 rfl rfl ⟨h.1.symm, hp, hB, by rw [h.2]⟩
theorem gc_X0_men_0 {d : Nat} {c k : Nat} {ρ : Rho} {E : Hp → Prop} {A : Nat → Nat} {σ σ1 : Sg} {r : Option Value} (h : r = some (.int (nI (ρ.1 0))) ∧ σ1 = σ) : Rv ρ E A mX0_men (d + 2) c k 0 [.ref (A 0)] [] σ r σ1 := by
  intro G l hp hB hR
  refine R_aload_n dX0_men_0 rfl ?_
  refine V_getr (o := 0) (v := .ref (ρ.1 2)) hB.1 dX0_men_1 fm_X0_19_1 ⟨by decide, by decide, rfl, rfl⟩ hR ?_
  refine V_rget (v := .ref (ρ.1 3)) hB dX0_men_4 fm_X0_137_2 rfl ?_
  refine V_size (w := 0) hB (by decide) dX0_men_7 cv_X0_121 (Nat.le_of_ble_eq_true rfl) ?_
  exact R_iret dX0_men_10 rfl rfl ⟨h.1.symm, hp, hB, by rw [h.2]⟩
theorem gc_X0_odds_0 {d : Nat} {v1 : Int32} {v2 : Int32} {c k : Nat} {ρ : Rho} {E : Hp → Prop} {A : Nat → Nat} {σ σ1 : Sg} {r : Option Value} (h : (((s0_isIn v1 0 4) = 0) → r = some (.int (-1)) ∧ σ1 = σ) ∧ ((¬ (s0_isIn v1 0 4) = 0) → ((¬ (s0_isIn v2 0 1) = 0) → Rv ρ E A mX0_odds (d + 2) c k 28 [.ref (A 0), .int v1, .int v2, .int 1, .int 1, .int 0] [] σ r σ1) ∧ (((s0_isIn v2 0 1) = 0) → r = some (.int (-1)) ∧ σ1 = σ))) : Rv ρ E A mX0_odds (d + 2) c k 0 [.ref (A 0), .int v1, .int v2, U_, U_, U_] [] σ r σ1 := by
  intro G l hp hB hR
  refine R_iload_n dX0_odds_0 rfl ?_
  refine R_iconst (v := 0) dX0_odds_1 (by decide) ?_
  refine R_iconst (v := 4) dX0_odds_2 (by decide) ?_
  refine V_callS [.int v1, .int 0, .int 4] dX0_odds_3 cs_X0_145 rfl rfl (Nat.le_of_ble_eq_true rfl) (s0t_isIn (d + 0) v1 0 4) ?_
  show RnH [] G l mX0_odds (d + 2) (PV ρ E A r σ1) noX 6 [.ref (A 0), .int v1, .int v2, U_, U_, U_] [.int (s0_isIn v1 0 4)] (ov rgM A σ hp) c k
  refine R_if_eq 18 dX0_odds_6 (by decide) (fun c1 => ?_) (fun c1 => ?_)
  · replace h := h.1 c1
    refine R_iconst (v := (-1)) dX0_odds_18 (by decide) ?_
    exact R_iret dX0_odds_19 rfl rfl ⟨h.1.symm, hp, hB, by rw [h.2]⟩
  · replace h := h.2 c1
    refine R_iload_n dX0_odds_9 rfl ?_
    refine R_iconst (v := 0) dX0_odds_10 (by decide) ?_
    refine R_iconst (v := 1) dX0_odds_11 (by decide) ?_
    refine V_callS [.int v2, .int 0, .int 1] dX0_odds_12 cs_X0_145 rfl rfl (Nat.le_of_ble_eq_true rfl) (s0t_isIn (d + 0) v2 0 1) ?_
    show RnH [] G l mX0_odds (d + 2) (PV ρ E A r σ1) noX 15 [.ref (A 0), .int v1, .int v2, U_, U_, U_] [.int (s0_isIn v2 0 1)] (ov rgM A σ hp) c k
    refine R_if_ne 20 dX0_odds_15 (by decide) (fun c2 => ?_) (fun c2 => ?_)
    · replace h := h.1 c2
      refine R_iconst (v := 1) dX0_odds_20 (by decide) ?_
      refine S_istore_n (ls1 := [.ref (A 0), .int v1, .int v2, .int 1, U_, U_]) dX0_odds_21 (by decide) rfl rfl ?_
      refine R_iconst (v := 1) dX0_odds_22 (by decide) ?_
      refine S_istore (ls1 := [.ref (A 0), .int v1, .int v2, .int 1, .int 1, U_]) dX0_odds_23 (by decide) rfl rfl ?_
      refine R_iconst (v := 0) dX0_odds_25 (by decide) ?_
      refine S_istore (ls1 := [.ref (A 0), .int v1, .int v2, .int 1, .int 1, .int 0]) dX0_odds_26 (by decide) rfl rfl ?_
      exact h G l hp hB hR
    · replace h := h.2 c2
      refine R_iconst (v := (-1)) dX0_odds_18 (by decide) ?_
      exact R_iret dX0_odds_19 rfl rfl ⟨h.1.symm, hp, hB, by rw [h.2]⟩
theorem gc_X0_odds_28 {d : Nat} {v1 : Int32} {v2 : Int32} {v3 : Int32} {v4 : Int32} {v5 : Int32} {c k : Nat} {ρ : Rho} {E : Hp → Prop} {A : Nat → Nat} {σ σ1 : Sg} {r : Option Value} (h : ((v1 ≤ v5) → ∃ r3 : Int32, St8 mX0_common (d + 1) [.int v4, .int v3] (some (.int r3)) ∧ ((¬ r3 = 0) ∧ (r = some (.int ((if v2 = 0 then v3 else v4) / r3)) ∧ σ1 = σ))) ∧ ((¬ v1 ≤ v5) → Rv ρ E A mX0_odds (d + 2) c k 28 [.ref (A 0), .int v1, .int v2, .int (v3 * (100 - (rgI ρ 12))), .int (v4 * 100), .int (v5 + 1)] [] σ r σ1)) : Rv ρ E A mX0_odds (d + 2) c k 28 [.ref (A 0), .int v1, .int v2, .int v3, .int v4, .int v5] [] σ r σ1 := by
  intro G l hp hB hR
  refine R_iload dX0_odds_28 rfl ?_
  refine R_iload_n dX0_odds_30 rfl ?_
  refine R_icmp_ge 60 dX0_odds_31 (by decide) (fun c1 => ?_) (fun c1 => ?_)
  · replace h := h.1 c1
    refine R_iload_n dX0_odds_60 rfl ?_
    have J2 : RnH [] G l mX0_odds (d + 2) (PV ρ E A r σ1) noX 70 [.ref (A 0), .int v1, .int v2, .int v3, .int v4, .int v5] [.int (if v2 = 0 then v3 else v4)] (ov rgM A σ hp) c k := by
      refine R_iload dX0_odds_70 rfl ?_
      refine R_iload_n dX0_odds_72 rfl ?_
      obtain ⟨r3, e4, h⟩ := h
      refine V_callS [.int v4, .int v3] dX0_odds_73 cs_X0_334 rfl rfl (Nat.le_of_ble_eq_true rfl) e4 ?_
      show RnH [] G l mX0_odds (d + 2) (PV ρ E A r σ1) noX 76 [.ref (A 0), .int v1, .int v2, .int v3, .int v4, .int v5] [.int r3, .int (if v2 = 0 then v3 else v4)] (ov rgM A σ hp) c k
      refine R_idiv dX0_odds_76 h.1 ?_
      replace h := h.2
      exact R_iret dX0_odds_77 rfl rfl ⟨h.1.symm, hp, hB, by rw [h.2]⟩
    refine R_if_ne 68 dX0_odds_61 (by decide) (fun c5 => ?_) (fun c5 => ?_)
    · refine R_iload dX0_odds_68 rfl ?_
      simp only [if_neg c5] at J2
      first | exact J2 | (simp only [if_neg c5]; exact J2)
    · refine R_iload_n dX0_odds_64 rfl ?_
      refine R_goto 70 dX0_odds_65 (by decide) ?_
      simp only [if_pos c5] at J2
      first | exact J2 | (simp only [if_pos c5]; exact J2)
  · replace h := h.2 c1
    refine R_iload_n dX0_odds_34 rfl ?_
    refine R_bipush (v := 100) dX0_odds_35 (by decide) ?_
    refine R_aload_n dX0_odds_37 rfl ?_
    refine V_getr (o := 0) (v := .ref (ρ.1 2)) hB.1 dX0_odds_38 fm_X0_19_1 ⟨by decide, by decide, rfl, rfl⟩ hR ?_
    refine V_rget (v := .int (rgI ρ 12)) hB dX0_odds_41 fm_X0_337_2 rfl ?_
    refine R_isub dX0_odds_44 ?_
    refine R_imul dX0_odds_45 ?_
    refine S_istore_n (ls1 := [.ref (A 0), .int v1, .int v2, .int (v3 * (100 - (rgI ρ 12))), .int v4, .int v5]) dX0_odds_46 (by decide) rfl rfl ?_
    refine R_iload dX0_odds_47 rfl ?_
    refine R_bipush (v := 100) dX0_odds_49 (by decide) ?_
    refine R_imul dX0_odds_51 ?_
    refine S_istore (ls1 := [.ref (A 0), .int v1, .int v2, .int (v3 * (100 - (rgI ρ 12))), .int (v4 * 100), .int v5]) dX0_odds_52 (by decide) rfl rfl ?_
    refine S_iinc (v := v5 + 1) (ls1 := [.ref (A 0), .int v1, .int v2, .int (v3 * (100 - (rgI ρ 12))), .int (v4 * 100), .int (v5 + 1)]) dX0_odds_54 rfl rfl (by decide) rfl rfl ?_
    refine R_goto 28 dX0_odds_57 (by decide) ?_
    exact h G l hp hB hR
theorem gc_X5_cost_0 {d : Nat} {v1 : Int32} {c k : Nat} {ρ : Rho} {E : Hp → Prop} {A : Nat → Nat} {σ σ1 : Sg} {r : Option Value} (h : r = some (.int (sj_bitCount v1)) ∧ σ1 = σ) : Rv ρ E A mX5_cost (d + 2) c k 0 [.ref (A 21), .int v1] [] σ r σ1 := by
  intro G l hp hB hR
  refine R_iload_n dX5_cost_0 rfl ?_
  refine V_callS [.int v1] dX5_cost_1 cs_X5_23 rfl rfl (Nat.le_of_ble_eq_true rfl) (sjt_bitCount (d + 0) v1) ?_
  show RnH [] G l mX5_cost (d + 2) (PV ρ E A r σ1) noX 4 [.ref (A 21), .int v1] [.int (sj_bitCount v1)] (ov rgM A σ hp) c k
  exact R_iret dX5_cost_4 rfl rfl ⟨h.1.symm, hp, hB, by rw [h.2]⟩
theorem gc_X6_does_0 {d : Nat} {v1 : Int32} {c k : Nat} {ρ : Rho} {E : Hp → Prop} {A : Nat → Nat} {σ σ1 : Sg} {r : Option Value} (h : ∃ (r3 : Int32) (σ_1 : Sg), Tv ρ E A mX2_dressed (d + 1) 0 0 [.ref (A 1)] σ (some (.int r3)) σ_1 ∧ (((r3 = 0) → r = some (.int 1) ∧ σ1 = σ_1) ∧ ((¬ r3 = 0) → ∃ (r7 : Int32) (σ_5 : Sg), Tv ρ E A mX2_dressed (d + 1) 0 0 [.ref (A 1)] σ_1 (some (.int r7)) σ_5 ∧ (r = some (.int (if (v1 &&& (sj_lowestOneBit r7)) = 0 then 0 else 1)) ∧ σ1 = σ_5)))) : Rv ρ E A mX6_does (d + 2) c k 0 [.ref (A 22), .int v1] [] σ r σ1 := by
  intro G l hp hB hR
  refine R_aload_n dX6_does_0 rfl ?_
  refine V_geta (o := 22) (q := 0) hB.1 dX6_does_1 fm_X6_1_6 ⟨by decide, by decide, rfl, rfl⟩ ?_
  refine V_geta (o := 0) (q := 1) hB.1 dX6_does_4 fm_X6_13_1 ⟨by decide, by decide, rfl, rfl⟩ ?_
  obtain ⟨r3, σ_1, e2, h⟩ := h
  refine V_call (o := 1) [] hB hR dX6_does_7 cv_X6_19 rfl rfl (Nat.le_of_ble_eq_true rfl) ⟨by decide, rfl⟩ rfl e2 (Nat.zero_le _) (Nat.zero_le _) (fun hp hB => ?_)
  show RnH [] G l mX6_does (d + 2) (PV ρ E A r σ1) noX 10 [.ref (A 22), .int v1] [.int r3] (ov rgM A σ_1 hp) c k
  have hR : σ_1.2.2 0 0 = .ref (ρ.1 2) := by rw [e2.1]; exact hR
  refine R_if_eq 31 dX6_does_10 (by decide) (fun c4 => ?_) (fun c4 => ?_)
  · replace h := h.1 c4
    refine R_iconst (v := 1) dX6_does_31 (by decide) ?_
    refine R_goto 36 dX6_does_32 (by decide) ?_
    exact R_iret dX6_does_36 rfl rfl ⟨h.1.symm, hp, hB, by rw [h.2]⟩
  · replace h := h.2 c4
    refine R_iload_n dX6_does_13 rfl ?_
    refine R_aload_n dX6_does_14 rfl ?_
    refine V_geta (o := 22) (q := 0) hB.1 dX6_does_15 fm_X6_1_6 ⟨by decide, by decide, rfl, rfl⟩ ?_
    refine V_geta (o := 0) (q := 1) hB.1 dX6_does_18 fm_X6_13_1 ⟨by decide, by decide, rfl, rfl⟩ ?_
    obtain ⟨r7, σ_5, e6, h⟩ := h
    refine V_call (o := 1) [] hB hR dX6_does_21 cv_X6_19 rfl rfl (Nat.le_of_ble_eq_true rfl) ⟨by decide, rfl⟩ rfl e6 (Nat.zero_le _) (Nat.zero_le _) (fun hp hB => ?_)
    show RnH [] G l mX6_does (d + 2) (PV ρ E A r σ1) noX 24 [.ref (A 22), .int v1] [.int r7, .int v1] (ov rgM A σ_5 hp) c k
    have hR : σ_5.2.2 0 0 = .ref (ρ.1 2) := by rw [e6.1]; exact hR
    refine V_callS [.int r7] dX6_does_24 cs_X6_25 rfl rfl (Nat.le_of_ble_eq_true rfl) (sjt_lowestOneBit (d + 0) r7) ?_
    show RnH [] G l mX6_does (d + 2) (PV ρ E A r σ1) noX 27 [.ref (A 22), .int v1] [.int (sj_lowestOneBit r7), .int v1] (ov rgM A σ_5 hp) c k
    refine R_iand dX6_does_27 ?_
    have J8 : RnH [] G l mX6_does (d + 2) (PV ρ E A r σ1) noX 36 [.ref (A 22), .int v1] [.int (if (v1 &&& (sj_lowestOneBit r7)) = 0 then 0 else 1)] (ov rgM A σ_5 hp) c k := by
      exact R_iret dX6_does_36 rfl (by show isB _; repeat (first | exact isB_0 | exact isB_1 | refine isB_if ?_ ?_)) ⟨h.1.symm, hp, hB, by rw [h.2]⟩
    refine R_if_eq 35 dX6_does_28 (by decide) (fun c9 => ?_) (fun c9 => ?_)
    · refine R_iconst (v := 0) dX6_does_35 (by decide) ?_
      simp only [if_pos c9] at J8
      first | exact J8 | (simp only [if_pos c9]; exact J8)
    · refine R_iconst (v := 1) dX6_does_31 (by decide) ?_
      refine R_goto 36 dX6_does_32 (by decide) ?_
      simp only [if_neg c9] at J8
      first | exact J8 | (simp only [if_neg c9]; exact J8)
theorem gc_X0_about_0 {d : Nat} {v1 : Int32} {c k : Nat} {ρ : Rho} {E : Hp → Prop} {A : Nat → Nat} {σ σ1 : Sg} {r : Option Value} (h : ((v1.toInt < 0 ∨ 13 < v1.toInt) → r = some (.int (-1)) ∧ σ1 = σ) ∧ (v1 = 0 → ∃ (r3 : Int32) (σ_1 : Sg), Tv ρ E A mX0_men (d + 2) 0 0 [.ref (A 0)] σ (some (.int r3)) σ_1 ∧ (r = some (.int r3) ∧ σ1 = σ_1)) ∧ (v1 = 1 → ∃ (r6 : Int32) (σ_4 : Sg), Tv ρ E A mX0_coats (d + 2) 0 0 [.ref (A 0)] σ (some (.int r6)) σ_4 ∧ (r = some (.int r6) ∧ σ1 = σ_4)) ∧ (v1 = 2 → r = some (.int (rgI ρ 9)) ∧ σ1 = σ) ∧ (v1 = 3 → r = some (.int (rgI ρ 10)) ∧ σ1 = σ) ∧ (v1 = 4 → r = some (.int (rgI ρ 11)) ∧ σ1 = σ) ∧ (v1 = 5 → r = some (.int (σ.1 1 7)) ∧ σ1 = σ) ∧ (v1 = 6 → r = some (.int (σ.1 1 8)) ∧ σ1 = σ) ∧ (v1 = 7 → r = some (.int (σ.1 17 2)) ∧ σ1 = σ) ∧ (v1 = 8 → r = some (.int (σ.1 18 2)) ∧ σ1 = σ) ∧ (v1 = 9 → r = some (.int (σ.1 24 2)) ∧ σ1 = σ) ∧ (v1 = 10 → r = some (.int (σ.1 0 6)) ∧ σ1 = σ) ∧ (v1 = 11 → r = some (.int (σ.1 0 5)) ∧ σ1 = σ) ∧ (v1 = 12 → r = some (.int (rgI ρ 8)) ∧ σ1 = σ) ∧ (v1 = 13 → r = some (.int (σ.1 0 13)) ∧ σ1 = σ)) : Rv ρ E A mX0_about (d + 3) c k 0 [.ref (A 0), .int v1] [] σ r σ1 := by
  intro G l hp hB hR
  refine R_iload_n dX0_about_0 rfl ?_
  by_cases hlo : v1.toInt < 0 ∨ 13 < v1.toInt
  · replace h := h.1 hlo
    refine R_tabOut 169 dX0_about_1 hlo (by decide) ?_
    refine R_iconst (v := (-1)) dX0_about_169 (by decide) ?_
    exact R_iret dX0_about_170 rfl rfl ⟨h.1.symm, hp, hB, by rw [h.2]⟩
  · replace h := h.2
    rcases (show v1.toInt = 0 ∨ v1.toInt = 1 ∨ v1.toInt = 2 ∨ v1.toInt = 3 ∨ v1.toInt = 4 ∨ v1.toInt = 5 ∨ v1.toInt = 6 ∨ v1.toInt = 7 ∨ v1.toInt = 8 ∨ v1.toInt = 9 ∨ v1.toInt = 10 ∨ v1.toInt = 11 ∨ v1.toInt = 12 ∨ v1.toInt = 13 by omega) with e9 | e9 | e9 | e9 | e9 | e9 | e9 | e9 | e9 | e9 | e9 | e9 | e9 | e9
    · replace e9 : v1 = 0 := Int32.toInt_inj.mp (e9.trans (by decide))
      replace h := h.1 e9
      subst e9
      refine R_tabIn 72 dX0_about_1 (by decide) (by decide) rfl (by decide) ?_
      refine R_aload_n dX0_about_72 rfl ?_
      obtain ⟨r3, σ_1, e2, h⟩ := h
      refine V_call (o := 0) [] hB hR dX0_about_73 cv_X0_143 rfl rfl (Nat.le_of_ble_eq_true rfl) ⟨by decide, rfl⟩ rfl e2 (Nat.zero_le _) (Nat.zero_le _) (fun hp hB => ?_)
      show RnH [] G l mX0_about (d + 3) (PV ρ E A r σ1) noX 76 [.ref (A 0), .int 0] [.int r3] (ov rgM A σ_1 hp) c k
      have hR : σ_1.2.2 0 0 = .ref (ρ.1 2) := by rw [e2.1]; exact hR
      exact R_iret dX0_about_76 rfl rfl ⟨h.1.symm, hp, hB, by rw [h.2]⟩
    · replace e9 : v1 = 1 := Int32.toInt_inj.mp (e9.trans (by decide))
      replace h := h.2.1 e9
      subst e9
      refine R_tabIn 77 dX0_about_1 (by decide) (by decide) rfl (by decide) ?_
      refine R_aload_n dX0_about_77 rfl ?_
      obtain ⟨r6, σ_4, e5, h⟩ := h
      refine V_call (o := 0) [] hB hR dX0_about_78 cv_X0_149 rfl rfl (Nat.le_of_ble_eq_true rfl) ⟨by decide, rfl⟩ rfl e5 (Nat.zero_le _) (Nat.zero_le _) (fun hp hB => ?_)
      show RnH [] G l mX0_about (d + 3) (PV ρ E A r σ1) noX 81 [.ref (A 0), .int 1] [.int r6] (ov rgM A σ_4 hp) c k
      have hR : σ_4.2.2 0 0 = .ref (ρ.1 2) := by rw [e5.1]; exact hR
      exact R_iret dX0_about_81 rfl rfl ⟨h.1.symm, hp, hB, by rw [h.2]⟩
    · replace e9 : v1 = 2 := Int32.toInt_inj.mp (e9.trans (by decide))
      replace h := h.2.2.1 e9
      subst e9
      refine R_tabIn 82 dX0_about_1 (by decide) (by decide) rfl (by decide) ?_
      refine R_aload_n dX0_about_82 rfl ?_
      refine V_getr (o := 0) (v := .ref (ρ.1 2)) hB.1 dX0_about_83 fm_X0_19_1 ⟨by decide, by decide, rfl, rfl⟩ hR ?_
      refine V_rget (v := .int (rgI ρ 9)) hB dX0_about_86 fm_X0_387_2 rfl ?_
      exact R_iret dX0_about_89 rfl rfl ⟨h.1.symm, hp, hB, by rw [h.2]⟩
    · replace e9 : v1 = 3 := Int32.toInt_inj.mp (e9.trans (by decide))
      replace h := h.2.2.2.1 e9
      subst e9
      refine R_tabIn 90 dX0_about_1 (by decide) (by decide) rfl (by decide) ?_
      refine R_aload_n dX0_about_90 rfl ?_
      refine V_getr (o := 0) (v := .ref (ρ.1 2)) hB.1 dX0_about_91 fm_X0_19_1 ⟨by decide, by decide, rfl, rfl⟩ hR ?_
      refine V_rget (v := .int (rgI ρ 10)) hB dX0_about_94 fm_X0_306_2 rfl ?_
      exact R_iret dX0_about_97 rfl rfl ⟨h.1.symm, hp, hB, by rw [h.2]⟩
    · replace e9 : v1 = 4 := Int32.toInt_inj.mp (e9.trans (by decide))
      replace h := h.2.2.2.2.1 e9
      subst e9
      refine R_tabIn 98 dX0_about_1 (by decide) (by decide) rfl (by decide) ?_
      refine R_aload_n dX0_about_98 rfl ?_
      refine V_getr (o := 0) (v := .ref (ρ.1 2)) hB.1 dX0_about_99 fm_X0_19_1 ⟨by decide, by decide, rfl, rfl⟩ hR ?_
      refine V_rget (v := .int (rgI ρ 11)) hB dX0_about_102 fm_X0_315_2 rfl ?_
      exact R_iret dX0_about_105 rfl rfl ⟨h.1.symm, hp, hB, by rw [h.2]⟩
    · replace e9 : v1 = 5 := Int32.toInt_inj.mp (e9.trans (by decide))
      replace h := h.2.2.2.2.2.1 e9
      subst e9
      refine R_tabIn 106 dX0_about_1 (by decide) (by decide) rfl (by decide) ?_
      refine R_aload_n dX0_about_106 rfl ?_
      refine V_geta (o := 0) (q := 1) hB.1 dX0_about_107 fm_X0_28_1 ⟨by decide, by decide, rfl, rfl⟩ ?_
      refine V_get (o := 1) (x := σ.1 1 7) hB.1 dX0_about_110 fm_X0_229_3 ⟨by decide, by decide, rfl, rfl⟩ rfl ?_
      exact R_iret dX0_about_113 rfl rfl ⟨h.1.symm, hp, hB, by rw [h.2]⟩
    · replace e9 : v1 = 6 := Int32.toInt_inj.mp (e9.trans (by decide))
      replace h := h.2.2.2.2.2.2.1 e9
      subst e9
      refine R_tabIn 114 dX0_about_1 (by decide) (by decide) rfl (by decide) ?_
      refine R_aload_n dX0_about_114 rfl ?_
      refine V_geta (o := 0) (q := 1) hB.1 dX0_about_115 fm_X0_28_1 ⟨by decide, by decide, rfl, rfl⟩ ?_
      refine V_get (o := 1) (x := σ.1 1 8) hB.1 dX0_about_118 fm_X0_390_3 ⟨by decide, by decide, rfl, rfl⟩ rfl ?_
      exact R_iret dX0_about_121 rfl rfl ⟨h.1.symm, hp, hB, by rw [h.2]⟩
    · replace e9 : v1 = 7 := Int32.toInt_inj.mp (e9.trans (by decide))
      replace h := h.2.2.2.2.2.2.2.1 e9
      subst e9
      refine R_tabIn 122 dX0_about_1 (by decide) (by decide) rfl (by decide) ?_
      refine R_aload_n dX0_about_122 rfl ?_
      refine V_geta (o := 0) (q := 17) hB.1 dX0_about_123 fm_X0_53_1 ⟨by decide, by decide, rfl, rfl⟩ ?_
      refine V_sizeO (o := 17) (x := σ.1 17 2) hB ⟨by decide, rfl, rfl⟩ dX0_about_126 cv_X0_121 (Nat.le_of_ble_eq_true rfl) rfl ?_
      exact R_iret dX0_about_129 rfl rfl ⟨h.1.symm, hp, hB, by rw [h.2]⟩
    · replace e9 : v1 = 8 := Int32.toInt_inj.mp (e9.trans (by decide))
      replace h := h.2.2.2.2.2.2.2.2.1 e9
      subst e9
      refine R_tabIn 130 dX0_about_1 (by decide) (by decide) rfl (by decide) ?_
      refine R_aload_n dX0_about_130 rfl ?_
      refine V_geta (o := 0) (q := 18) hB.1 dX0_about_131 fm_X0_57_1 ⟨by decide, by decide, rfl, rfl⟩ ?_
      refine V_sizeO (o := 18) (x := σ.1 18 2) hB ⟨by decide, rfl, rfl⟩ dX0_about_134 cv_X0_121 (Nat.le_of_ble_eq_true rfl) rfl ?_
      exact R_iret dX0_about_137 rfl rfl ⟨h.1.symm, hp, hB, by rw [h.2]⟩
    · replace e9 : v1 = 9 := Int32.toInt_inj.mp (e9.trans (by decide))
      replace h := h.2.2.2.2.2.2.2.2.2.1 e9
      subst e9
      refine R_tabIn 138 dX0_about_1 (by decide) (by decide) rfl (by decide) ?_
      refine R_aload_n dX0_about_138 rfl ?_
      refine V_geta (o := 0) (q := 24) hB.1 dX0_about_139 fm_X0_86_1 ⟨by decide, by decide, rfl, rfl⟩ ?_
      refine V_sizeO (o := 24) (x := σ.1 24 2) hB ⟨by decide, rfl, rfl⟩ dX0_about_142 cv_X0_121 (Nat.le_of_ble_eq_true rfl) rfl ?_
      exact R_iret dX0_about_145 rfl rfl ⟨h.1.symm, hp, hB, by rw [h.2]⟩
    · replace e9 : v1 = 10 := Int32.toInt_inj.mp (e9.trans (by decide))
      replace h := h.2.2.2.2.2.2.2.2.2.2.1 e9
      subst e9
      refine R_tabIn 146 dX0_about_1 (by decide) (by decide) rfl (by decide) ?_
      refine R_aload_n dX0_about_146 rfl ?_
      refine V_get (o := 0) (x := σ.1 0 6) hB.1 dX0_about_147 fm_X0_342_1 ⟨by decide, by decide, rfl, rfl⟩ rfl ?_
      exact R_iret dX0_about_150 rfl rfl ⟨h.1.symm, hp, hB, by rw [h.2]⟩
    · replace e9 : v1 = 11 := Int32.toInt_inj.mp (e9.trans (by decide))
      replace h := h.2.2.2.2.2.2.2.2.2.2.2.1 e9
      subst e9
      refine R_tabIn 151 dX0_about_1 (by decide) (by decide) rfl (by decide) ?_
      refine R_aload_n dX0_about_151 rfl ?_
      refine V_get (o := 0) (x := σ.1 0 5) hB.1 dX0_about_152 fm_X0_151_1 ⟨by decide, by decide, rfl, rfl⟩ rfl ?_
      exact R_iret dX0_about_155 rfl rfl ⟨h.1.symm, hp, hB, by rw [h.2]⟩
    · replace e9 : v1 = 12 := Int32.toInt_inj.mp (e9.trans (by decide))
      replace h := h.2.2.2.2.2.2.2.2.2.2.2.2.1 e9
      subst e9
      refine R_tabIn 156 dX0_about_1 (by decide) (by decide) rfl (by decide) ?_
      refine R_aload_n dX0_about_156 rfl ?_
      refine V_getr (o := 0) (v := .ref (ρ.1 2)) hB.1 dX0_about_157 fm_X0_19_1 ⟨by decide, by decide, rfl, rfl⟩ hR ?_
      refine V_rget (v := .int (rgI ρ 8)) hB dX0_about_160 fm_X0_393_2 rfl ?_
      exact R_iret dX0_about_163 rfl rfl ⟨h.1.symm, hp, hB, by rw [h.2]⟩
    · replace e9 : v1 = 13 := Int32.toInt_inj.mp (e9.trans (by decide))
      replace h := h.2.2.2.2.2.2.2.2.2.2.2.2.2 e9
      subst e9
      refine R_tabIn 164 dX0_about_1 (by decide) (by decide) rfl (by decide) ?_
      refine R_aload_n dX0_about_164 rfl ?_
      refine V_get (o := 0) (x := σ.1 0 13) hB.1 dX0_about_165 fm_X0_112_1 ⟨by decide, by decide, rfl, rfl⟩ rfl ?_
      exact R_iret dX0_about_168 rfl rfl ⟨h.1.symm, hp, hB, by rw [h.2]⟩
theorem gc_X0_breadthOf_0 {d : Nat} {v1 : Int32} {c k : Nat} {ρ : Rho} {E : Hp → Prop} {A : Nat → Nat} {σ σ1 : Sg} {r : Option Value} (h : Rv ρ E A mX0_breadthOf (d + 3) c k 4 [.ref (A 0), .int v1, .int 0, .int 0] [] σ r σ1) : Rv ρ E A mX0_breadthOf (d + 3) c k 0 [.ref (A 0), .int v1, U_, U_] [] σ r σ1 := by
  intro G l hp hB hR
  refine R_iconst (v := 0) dX0_breadthOf_0 (by decide) ?_
  refine S_istore_n (ls1 := [.ref (A 0), .int v1, .int 0, U_]) dX0_breadthOf_1 (by decide) rfl rfl ?_
  refine R_iconst (v := 0) dX0_breadthOf_2 (by decide) ?_
  refine S_istore_n (ls1 := [.ref (A 0), .int v1, .int 0, .int 0]) dX0_breadthOf_3 (by decide) rfl rfl ?_
  exact h G l hp hB hR
theorem gc_X0_breadthOf_4 {d : Nat} {v1 : Int32} {v2 : Int32} {v3 : Int32} {c k : Nat} {ρ : Rho} {E : Hp → Prop} {A : Nat → Nat} {σ σ1 : Sg} {r : Option Value} (h : ∃ (r3 : Int32) (σ_1 : Sg), Tv ρ E A mX0_men (d + 2) 0 0 [.ref (A 0)] σ (some (.int r3)) σ_1 ∧ (((r3 ≤ v3) → r = some (.int v2) ∧ σ1 = σ_1) ∧ ((¬ r3 ≤ v3) → (((s0_has v1 v3) = 0) → Rv ρ E A mX0_breadthOf (d + 3) c k 4 [.ref (A 0), .int v1, .int (v2 + 0), .int (v3 + 1)] [] σ_1 r σ1) ∧ ((¬ (s0_has v1 v3) = 0) → vp_in v3 6 ∧ ((((σ_1.1 3 v3.toNatClampNeg) < 0) → Rv ρ E A mX0_breadthOf (d + 3) c k 4 [.ref (A 0), .int v1, .int (v2 + 0), .int (v3 + 1)] [] σ_1 r σ1) ∧ ((¬ (σ_1.1 3 v3.toNatClampNeg) < 0) → vp_in (σ_1.1 3 v3.toNatClampNeg) 6 ∧ (Rv ρ E A mX0_breadthOf (d + 3) c k 4 [.ref (A 0), .int v1, .int (v2 + (σ_1.1 5 (σ_1.1 3 v3.toNatClampNeg).toNatClampNeg)), .int (v3 + 1)] [] σ_1 r σ1))))))) : Rv ρ E A mX0_breadthOf (d + 3) c k 4 [.ref (A 0), .int v1, .int v2, .int v3] [] σ r σ1 := by
  intro G l hp hB hR
  refine R_iload_n dX0_breadthOf_4 rfl ?_
  refine R_aload_n dX0_breadthOf_5 rfl ?_
  obtain ⟨r3, σ_1, e2, h⟩ := h
  refine V_call (o := 0) [] hB hR dX0_breadthOf_6 cv_X0_143 rfl rfl (Nat.le_of_ble_eq_true rfl) ⟨by decide, rfl⟩ rfl e2 (Nat.zero_le _) (Nat.zero_le _) (fun hp hB => ?_)
  show RnH [] G l mX0_breadthOf (d + 3) (PV ρ E A r σ1) noX 9 [.ref (A 0), .int v1, .int v2, .int v3] [.int r3, .int v3] (ov rgM A σ_1 hp) c k
  have hR : σ_1.2.2 0 0 = .ref (ρ.1 2) := by rw [e2.1]; exact hR
  refine R_icmp_ge 62 dX0_breadthOf_9 (by decide) (fun c4 => ?_) (fun c4 => ?_)
  · replace h := h.1 c4
    refine R_iload_n dX0_breadthOf_62 rfl ?_
    exact R_iret dX0_breadthOf_63 rfl rfl ⟨h.1.symm, hp, hB, by rw [h.2]⟩
  · replace h := h.2 c4
    refine R_iload_n dX0_breadthOf_12 rfl ?_
    refine R_iload_n dX0_breadthOf_13 rfl ?_
    refine R_iload_n dX0_breadthOf_14 rfl ?_
    refine V_callS [.int v1, .int v3] dX0_breadthOf_15 cs_X0_239 rfl rfl (Nat.le_of_ble_eq_true rfl) (s0t_has (d + 1) v1 v3) ?_
    show RnH [] G l mX0_breadthOf (d + 3) (PV ρ E A r σ1) noX 18 [.ref (A 0), .int v1, .int v2, .int v3] [.int (s0_has v1 v3), .int v2] (ov rgM A σ_1 hp) c k
    refine R_if_eq 53 dX0_breadthOf_18 (by decide) (fun c5 => ?_) (fun c5 => ?_)
    · replace h := h.1 c5
      refine R_iconst (v := 0) dX0_breadthOf_53 (by decide) ?_
      refine R_iadd dX0_breadthOf_54 ?_
      refine S_istore_n (ls1 := [.ref (A 0), .int v1, .int (v2 + 0), .int v3]) dX0_breadthOf_55 (by decide) rfl rfl ?_
      refine S_iinc (v := v3 + 1) (ls1 := [.ref (A 0), .int v1, .int (v2 + 0), .int (v3 + 1)]) dX0_breadthOf_56 rfl rfl (by decide) rfl rfl ?_
      refine R_goto 4 dX0_breadthOf_59 (by decide) ?_
      exact h G l hp hB hR
    · replace h := h.2 c5
      refine R_aload_n dX0_breadthOf_21 rfl ?_
      refine V_geta (o := 0) (q := 1) hB.1 dX0_breadthOf_22 fm_X0_28_1 ⟨by decide, by decide, rfl, rfl⟩ ?_
      refine V_geta (o := 1) (q := 3) hB.1 dX0_breadthOf_25 fm_X0_198_3 ⟨by decide, by decide, rfl, rfl⟩ ?_
      refine R_iload_n dX0_breadthOf_28 rfl ?_
      have b6 := h.1
      replace h := h.2
      refine V_iald (o := 3) (x := σ_1.1 3 v3.toNatClampNeg) hB.1 dX0_breadthOf_29 ⟨by decide, rfl⟩ b6 rfl ?_
      refine R_if_lt 53 dX0_breadthOf_30 (by decide) (fun c7 => ?_) (fun c7 => ?_)
      · replace h := h.1 c7
        refine R_iconst (v := 0) dX0_breadthOf_53 (by decide) ?_
        refine R_iadd dX0_breadthOf_54 ?_
        refine S_istore_n (ls1 := [.ref (A 0), .int v1, .int (v2 + 0), .int v3]) dX0_breadthOf_55 (by decide) rfl rfl ?_
        refine S_iinc (v := v3 + 1) (ls1 := [.ref (A 0), .int v1, .int (v2 + 0), .int (v3 + 1)]) dX0_breadthOf_56 rfl rfl (by decide) rfl rfl ?_
        refine R_goto 4 dX0_breadthOf_59 (by decide) ?_
        exact h G l hp hB hR
      · replace h := h.2 c7
        refine R_aload_n dX0_breadthOf_33 rfl ?_
        refine V_geta (o := 0) (q := 1) hB.1 dX0_breadthOf_34 fm_X0_28_1 ⟨by decide, by decide, rfl, rfl⟩ ?_
        refine V_geta (o := 1) (q := 5) hB.1 dX0_breadthOf_37 fm_X0_210_3 ⟨by decide, by decide, rfl, rfl⟩ ?_
        refine R_aload_n dX0_breadthOf_40 rfl ?_
        refine V_geta (o := 0) (q := 1) hB.1 dX0_breadthOf_41 fm_X0_28_1 ⟨by decide, by decide, rfl, rfl⟩ ?_
        refine V_geta (o := 1) (q := 3) hB.1 dX0_breadthOf_44 fm_X0_198_3 ⟨by decide, by decide, rfl, rfl⟩ ?_
        refine R_iload_n dX0_breadthOf_47 rfl ?_
        refine V_iald (o := 3) (x := σ_1.1 3 v3.toNatClampNeg) hB.1 dX0_breadthOf_48 ⟨by decide, rfl⟩ b6 rfl ?_
        have b8 := h.1
        replace h := h.2
        refine V_iald (o := 5) (x := σ_1.1 5 (σ_1.1 3 v3.toNatClampNeg).toNatClampNeg) hB.1 dX0_breadthOf_49 ⟨by decide, rfl⟩ b8 rfl ?_
        refine R_goto 54 dX0_breadthOf_50 (by decide) ?_
        refine R_iadd dX0_breadthOf_54 ?_
        refine S_istore_n (ls1 := [.ref (A 0), .int v1, .int (v2 + (σ_1.1 5 (σ_1.1 3 v3.toNatClampNeg).toNatClampNeg)), .int v3]) dX0_breadthOf_55 (by decide) rfl rfl ?_
        refine S_iinc (v := v3 + 1) (ls1 := [.ref (A 0), .int v1, .int (v2 + (σ_1.1 5 (σ_1.1 3 v3.toNatClampNeg).toNatClampNeg)), .int (v3 + 1)]) dX0_breadthOf_56 rfl rfl (by decide) rfl rfl ?_
        refine R_goto 4 dX0_breadthOf_59 (by decide) ?_
        exact h G l hp hB hR
theorem gc_X0_isCoat_0 {d : Nat} {v1 : Int32} {c k : Nat} {ρ : Rho} {E : Hp → Prop} {A : Nat → Nat} {σ σ1 : Sg} {r : Option Value} (h : ∃ (r3 : Int32) (σ_1 : Sg), Tv ρ E A mX0_coats (d + 2) 0 0 [.ref (A 0)] σ (some (.int r3)) σ_1 ∧ (r = some (.int (s0_isIn v1 0 (r3 - 1))) ∧ σ1 = σ_1)) : Rv ρ E A mX0_isCoat (d + 3) c k 0 [.ref (A 0), .int v1] [] σ r σ1 := by
  intro G l hp hB hR
  refine R_iload_n dX0_isCoat_0 rfl ?_
  refine R_iconst (v := 0) dX0_isCoat_1 (by decide) ?_
  refine R_aload_n dX0_isCoat_2 rfl ?_
  obtain ⟨r3, σ_1, e2, h⟩ := h
  refine V_call (o := 0) [] hB hR dX0_isCoat_3 cv_X0_149 rfl rfl (Nat.le_of_ble_eq_true rfl) ⟨by decide, rfl⟩ rfl e2 (Nat.zero_le _) (Nat.zero_le _) (fun hp hB => ?_)
  show RnH [] G l mX0_isCoat (d + 3) (PV ρ E A r σ1) noX 6 [.ref (A 0), .int v1] [.int r3, .int 0, .int v1] (ov rgM A σ_1 hp) c k
  have hR : σ_1.2.2 0 0 = .ref (ρ.1 2) := by rw [e2.1]; exact hR
  refine R_iconst (v := 1) dX0_isCoat_6 (by decide) ?_
  refine R_isub dX0_isCoat_7 ?_
  refine V_callS [.int v1, .int 0, .int (r3 - 1)] dX0_isCoat_8 cs_X0_145 rfl rfl (Nat.le_of_ble_eq_true rfl) (s0t_isIn (d + 1) v1 0 (r3 - 1)) ?_
  show RnH [] G l mX0_isCoat (d + 3) (PV ρ E A r σ1) noX 11 [.ref (A 0), .int v1] [.int (s0_isIn v1 0 (r3 - 1))] (ov rgM A σ_1 hp) c k
  exact R_iret dX0_isCoat_11 rfl (s0b_isIn v1 0 (r3 - 1)) ⟨h.1.symm, hp, hB, by rw [h.2]⟩
theorem gc_X0_isMan_0 {d : Nat} {v1 : Int32} {c k : Nat} {ρ : Rho} {E : Hp → Prop} {A : Nat → Nat} {σ σ1 : Sg} {r : Option Value} (h : ∃ (r3 : Int32) (σ_1 : Sg), Tv ρ E A mX0_men (d + 2) 0 0 [.ref (A 0)] σ (some (.int r3)) σ_1 ∧ (r = some (.int (s0_isIn v1 0 (r3 - 1))) ∧ σ1 = σ_1)) : Rv ρ E A mX0_isMan (d + 3) c k 0 [.ref (A 0), .int v1] [] σ r σ1 := by
  intro G l hp hB hR
  refine R_iload_n dX0_isMan_0 rfl ?_
  refine R_iconst (v := 0) dX0_isMan_1 (by decide) ?_
  refine R_aload_n dX0_isMan_2 rfl ?_
  obtain ⟨r3, σ_1, e2, h⟩ := h
  refine V_call (o := 0) [] hB hR dX0_isMan_3 cv_X0_143 rfl rfl (Nat.le_of_ble_eq_true rfl) ⟨by decide, rfl⟩ rfl e2 (Nat.zero_le _) (Nat.zero_le _) (fun hp hB => ?_)
  show RnH [] G l mX0_isMan (d + 3) (PV ρ E A r σ1) noX 6 [.ref (A 0), .int v1] [.int r3, .int 0, .int v1] (ov rgM A σ_1 hp) c k
  have hR : σ_1.2.2 0 0 = .ref (ρ.1 2) := by rw [e2.1]; exact hR
  refine R_iconst (v := 1) dX0_isMan_6 (by decide) ?_
  refine R_isub dX0_isMan_7 ?_
  refine V_callS [.int v1, .int 0, .int (r3 - 1)] dX0_isMan_8 cs_X0_145 rfl rfl (Nat.le_of_ble_eq_true rfl) (s0t_isIn (d + 1) v1 0 (r3 - 1)) ?_
  show RnH [] G l mX0_isMan (d + 3) (PV ρ E A r σ1) noX 11 [.ref (A 0), .int v1] [.int (s0_isIn v1 0 (r3 - 1))] (ov rgM A σ_1 hp) c k
  exact R_iret dX0_isMan_11 rfl (s0b_isIn v1 0 (r3 - 1)) ⟨h.1.symm, hp, hB, by rw [h.2]⟩
theorem gc_X0_rowOf_0 {d : Nat} {v1 : Int32} {c k : Nat} {ρ : Rho} {E : Hp → Prop} {A : Nat → Nat} {σ σ1 : Sg} {r : Option Value} (h : Rv ρ E A mX0_rowOf (d + 3) c k 7 [.ref (A 0), .int v1, .int 0, .int 0, .int 0] [] σ r σ1) : Rv ρ E A mX0_rowOf (d + 3) c k 0 [.ref (A 0), .int v1, U_, U_, U_] [] σ r σ1 := by
  intro G l hp hB hR
  refine R_iconst (v := 0) dX0_rowOf_0 (by decide) ?_
  refine S_istore_n (ls1 := [.ref (A 0), .int v1, .int 0, U_, U_]) dX0_rowOf_1 (by decide) rfl rfl ?_
  refine R_iconst (v := 0) dX0_rowOf_2 (by decide) ?_
  refine S_istore_n (ls1 := [.ref (A 0), .int v1, .int 0, .int 0, U_]) dX0_rowOf_3 (by decide) rfl rfl ?_
  refine R_iconst (v := 0) dX0_rowOf_4 (by decide) ?_
  refine S_istore (ls1 := [.ref (A 0), .int v1, .int 0, .int 0, .int 0]) dX0_rowOf_5 (by decide) rfl rfl ?_
  exact h G l hp hB hR
theorem gc_X0_rowOf_7 {d : Nat} {v1 : Int32} {v2 : Int32} {v3 : Int32} {v4 : Int32} {c k : Nat} {ρ : Rho} {E : Hp → Prop} {A : Nat → Nat} {σ σ1 : Sg} {r : Option Value} (h : ∃ (r3 : Int32) (σ_1 : Sg), Tv ρ E A mX0_coats (d + 2) 0 0 [.ref (A 0)] σ (some (.int r3)) σ_1 ∧ (((r3 ≤ v4) → r = some (.int (if (rgI ρ 10) < v2 then (-1) else v3)) ∧ σ1 = σ_1) ∧ ((¬ r3 ≤ v4) → ((¬ (s0_has v1 v4) = 0) → vp_in v4 6 ∧ (Rv ρ E A mX0_rowOf (d + 3) c k 7 [.ref (A 0), .int v1, .int (v2 + (σ_1.1 5 v4.toNatClampNeg)), .int (sj_max v3 (σ_1.1 4 v4.toNatClampNeg)), .int (v4 + 1)] [] σ_1 r σ1)) ∧ (((s0_has v1 v4) = 0) → Rv ρ E A mX0_rowOf (d + 3) c k 7 [.ref (A 0), .int v1, .int v2, .int v3, .int (v4 + 1)] [] σ_1 r σ1)))) : Rv ρ E A mX0_rowOf (d + 3) c k 7 [.ref (A 0), .int v1, .int v2, .int v3, .int v4] [] σ r σ1 := by
  intro G l hp hB hR
  refine R_iload dX0_rowOf_7 rfl ?_
  refine R_aload_n dX0_rowOf_9 rfl ?_
  obtain ⟨r3, σ_1, e2, h⟩ := h
  refine V_call (o := 0) [] hB hR dX0_rowOf_10 cv_X0_149 rfl rfl (Nat.le_of_ble_eq_true rfl) ⟨by decide, rfl⟩ rfl e2 (Nat.zero_le _) (Nat.zero_le _) (fun hp hB => ?_)
  show RnH [] G l mX0_rowOf (d + 3) (PV ρ E A r σ1) noX 13 [.ref (A 0), .int v1, .int v2, .int v3, .int v4] [.int r3, .int v4] (ov rgM A σ_1 hp) c k
  have hR : σ_1.2.2 0 0 = .ref (ρ.1 2) := by rw [e2.1]; exact hR
  refine R_icmp_ge 62 dX0_rowOf_13 (by decide) (fun c4 => ?_) (fun c4 => ?_)
  · replace h := h.1 c4
    refine R_iload_n dX0_rowOf_62 rfl ?_
    refine R_aload_n dX0_rowOf_63 rfl ?_
    refine V_getr (o := 0) (v := .ref (ρ.1 2)) hB.1 dX0_rowOf_64 fm_X0_19_1 ⟨by decide, by decide, rfl, rfl⟩ hR ?_
    refine V_rget (v := .int (rgI ρ 10)) hB dX0_rowOf_67 fm_X0_306_2 rfl ?_
    have J5 : RnH [] G l mX0_rowOf (d + 3) (PV ρ E A r σ1) noX 78 [.ref (A 0), .int v1, .int v2, .int v3, .int v4] [.int (if (rgI ρ 10) < v2 then (-1) else v3)] (ov rgM A σ_1 hp) c k := by
      exact R_iret dX0_rowOf_78 rfl rfl ⟨h.1.symm, hp, hB, by rw [h.2]⟩
    refine R_icmp_gt 77 dX0_rowOf_70 (by decide) (fun c6 => ?_) (fun c6 => ?_)
    · refine R_iconst (v := (-1)) dX0_rowOf_77 (by decide) ?_
      simp only [if_pos c6] at J5
      first | exact J5 | (simp only [if_pos c6]; exact J5)
    · refine R_iload_n dX0_rowOf_73 rfl ?_
      refine R_goto 78 dX0_rowOf_74 (by decide) ?_
      simp only [if_neg c6] at J5
      first | exact J5 | (simp only [if_neg c6]; exact J5)
  · replace h := h.2 c4
    refine R_iload_n dX0_rowOf_16 rfl ?_
    refine R_iload dX0_rowOf_17 rfl ?_
    refine V_callS [.int v1, .int v4] dX0_rowOf_19 cs_X0_239 rfl rfl (Nat.le_of_ble_eq_true rfl) (s0t_has (d + 1) v1 v4) ?_
    show RnH [] G l mX0_rowOf (d + 3) (PV ρ E A r σ1) noX 22 [.ref (A 0), .int v1, .int v2, .int v3, .int v4] [.int (s0_has v1 v4)] (ov rgM A σ_1 hp) c k
    refine R_if_ne 28 dX0_rowOf_22 (by decide) (fun c7 => ?_) (fun c7 => ?_)
    · replace h := h.1 c7
      refine R_iload_n dX0_rowOf_28 rfl ?_
      refine R_aload_n dX0_rowOf_29 rfl ?_
      refine V_geta (o := 0) (q := 1) hB.1 dX0_rowOf_30 fm_X0_28_1 ⟨by decide, by decide, rfl, rfl⟩ ?_
      refine V_geta (o := 1) (q := 5) hB.1 dX0_rowOf_33 fm_X0_210_3 ⟨by decide, by decide, rfl, rfl⟩ ?_
      refine R_iload dX0_rowOf_36 rfl ?_
      have b8 := h.1
      replace h := h.2
      refine V_iald (o := 5) (x := σ_1.1 5 v4.toNatClampNeg) hB.1 dX0_rowOf_38 ⟨by decide, rfl⟩ b8 rfl ?_
      refine R_iadd dX0_rowOf_39 ?_
      refine S_istore_n (ls1 := [.ref (A 0), .int v1, .int (v2 + (σ_1.1 5 v4.toNatClampNeg)), .int v3, .int v4]) dX0_rowOf_40 (by decide) rfl rfl ?_
      refine R_iload_n dX0_rowOf_41 rfl ?_
      refine R_aload_n dX0_rowOf_42 rfl ?_
      refine V_geta (o := 0) (q := 1) hB.1 dX0_rowOf_43 fm_X0_28_1 ⟨by decide, by decide, rfl, rfl⟩ ?_
      refine V_geta (o := 1) (q := 4) hB.1 dX0_rowOf_46 fm_X0_208_3 ⟨by decide, by decide, rfl, rfl⟩ ?_
      refine R_iload dX0_rowOf_49 rfl ?_
      refine V_iald (o := 4) (x := σ_1.1 4 v4.toNatClampNeg) hB.1 dX0_rowOf_51 ⟨by decide, rfl⟩ b8 rfl ?_
      refine R_mmax dX0_rowOf_52 q1048 (Nat.le_of_ble_eq_true rfl) ?_
      refine S_istore_n (ls1 := [.ref (A 0), .int v1, .int (v2 + (σ_1.1 5 v4.toNatClampNeg)), .int (sj_max v3 (σ_1.1 4 v4.toNatClampNeg)), .int v4]) dX0_rowOf_55 (by decide) rfl rfl ?_
      refine S_iinc (v := v4 + 1) (ls1 := [.ref (A 0), .int v1, .int (v2 + (σ_1.1 5 v4.toNatClampNeg)), .int (sj_max v3 (σ_1.1 4 v4.toNatClampNeg)), .int (v4 + 1)]) dX0_rowOf_56 rfl rfl (by decide) rfl rfl ?_
      refine R_goto 7 dX0_rowOf_59 (by decide) ?_
      exact h G l hp hB hR
    · replace h := h.2 c7
      refine R_goto 56 dX0_rowOf_25 (by decide) ?_
      refine S_iinc (v := v4 + 1) (ls1 := [.ref (A 0), .int v1, .int v2, .int v3, .int (v4 + 1)]) dX0_rowOf_56 rfl rfl (by decide) rfl rfl ?_
      refine R_goto 7 dX0_rowOf_59 (by decide) ?_
      exact h G l hp hB hR
theorem gc_X0_areLike_0 {d : Nat} {v1 : Int32} {v2 : Int32} {c k : Nat} {ρ : Rho} {E : Hp → Prop} {A : Nat → Nat} {σ σ1 : Sg} {r : Option Value} (h : vp_in v1 (ρ.1 0) ∧ (vp_in v2 (ρ.1 0) ∧ (r = some (.int (if (rgI ρ 11) < (sj_abs ((mnI ρ v1.toNatClampNeg 1) - (mnI ρ v2.toNatClampNeg 1))) then 0 else 1)) ∧ σ1 = σ))) : Rv ρ E A mX0_areLike (d + 4) c k 0 [.ref (A 0), .int v1, .int v2] [] σ r σ1 := by
  intro G l hp hB hR
  refine R_aload_n dX0_areLike_0 rfl ?_
  refine V_getr (o := 0) (v := .ref (ρ.1 2)) hB.1 dX0_areLike_1 fm_X0_19_1 ⟨by decide, by decide, rfl, rfl⟩ hR ?_
  refine V_rget (v := .ref (ρ.1 3)) hB dX0_areLike_4 fm_X0_137_2 rfl ?_
  refine R_iload_n dX0_areLike_7 rfl ?_
  have b1 := h.1
  replace h := h.2
  refine V_lget (w := 0) (i := v1) hB (by decide) b1 dX0_areLike_8 cv_X0_184 (Nat.le_of_ble_eq_true rfl) ?_
  refine V_mcast (i := v1) hB b1 dX0_areLike_11 q1003 ?_
  refine V_mget (i := v1) (x := mnI ρ v1.toNatClampNeg 1) hB b1 dX0_areLike_14 fm_X0_189_9 (by decide) rfl ?_
  refine R_aload_n dX0_areLike_17 rfl ?_
  refine V_getr (o := 0) (v := .ref (ρ.1 2)) hB.1 dX0_areLike_18 fm_X0_19_1 ⟨by decide, by decide, rfl, rfl⟩ hR ?_
  refine V_rget (v := .ref (ρ.1 3)) hB dX0_areLike_21 fm_X0_137_2 rfl ?_
  refine R_iload_n dX0_areLike_24 rfl ?_
  have b2 := h.1
  replace h := h.2
  refine V_lget (w := 0) (i := v2) hB (by decide) b2 dX0_areLike_25 cv_X0_184 (Nat.le_of_ble_eq_true rfl) ?_
  refine V_mcast (i := v2) hB b2 dX0_areLike_28 q1003 ?_
  refine V_mget (i := v2) (x := mnI ρ v2.toNatClampNeg 1) hB b2 dX0_areLike_31 fm_X0_189_9 (by decide) rfl ?_
  refine R_isub dX0_areLike_34 ?_
  refine R_mabs dX0_areLike_35 q1295 (Nat.le_of_ble_eq_true rfl) ?_
  refine R_aload_n dX0_areLike_38 rfl ?_
  refine V_getr (o := 0) (v := .ref (ρ.1 2)) hB.1 dX0_areLike_39 fm_X0_19_1 ⟨by decide, by decide, rfl, rfl⟩ hR ?_
  refine V_rget (v := .int (rgI ρ 11)) hB dX0_areLike_42 fm_X0_315_2 rfl ?_
  have J3 : RnH [] G l mX0_areLike (d + 4) (PV ρ E A r σ1) noX 53 [.ref (A 0), .int v1, .int v2] [.int (if (rgI ρ 11) < (sj_abs ((mnI ρ v1.toNatClampNeg 1) - (mnI ρ v2.toNatClampNeg 1))) then 0 else 1)] (ov rgM A σ hp) c k := by
    exact R_iret dX0_areLike_53 rfl (by show isB _; repeat (first | exact isB_0 | exact isB_1 | refine isB_if ?_ ?_)) ⟨h.1.symm, hp, hB, by rw [h.2]⟩
  refine R_icmp_gt 52 dX0_areLike_45 (by decide) (fun c4 => ?_) (fun c4 => ?_)
  · refine R_iconst (v := 0) dX0_areLike_52 (by decide) ?_
    simp only [if_pos c4] at J3
    first | exact J3 | (simp only [if_pos c4]; exact J3)
  · refine R_iconst (v := 1) dX0_areLike_48 (by decide) ?_
    refine R_goto 53 dX0_areLike_49 (by decide) ?_
    simp only [if_neg c4] at J3
    first | exact J3 | (simp only [if_neg c4]; exact J3)
theorem gc_X0_breadth_0 {d : Nat} {c k : Nat} {ρ : Rho} {E : Hp → Prop} {A : Nat → Nat} {σ σ1 : Sg} {r : Option Value} (h : ∃ (r3 : Int32) (σ_1 : Sg), Tv ρ E A mX2_dressed (d + 3) 0 0 [.ref (A 1)] σ (some (.int r3)) σ_1 ∧ (∃ (r6 : Int32) (σ_4 : Sg), Tv ρ E A mX0_breadthOf (d + 3) 0 0 [.ref (A 0), .int r3] σ_1 (some (.int r6)) σ_4 ∧ (r = some (.int r6) ∧ σ1 = σ_4))) : Rv ρ E A mX0_breadth (d + 4) c k 0 [.ref (A 0)] [] σ r σ1 := by
  intro G l hp hB hR
  refine R_aload_n dX0_breadth_0 rfl ?_
  refine R_aload_n dX0_breadth_1 rfl ?_
  refine V_geta (o := 0) (q := 1) hB.1 dX0_breadth_2 fm_X0_28_1 ⟨by decide, by decide, rfl, rfl⟩ ?_
  obtain ⟨r3, σ_1, e2, h⟩ := h
  refine V_call (o := 1) [] hB hR dX0_breadth_5 cv_X0_254 rfl rfl (Nat.le_of_ble_eq_true rfl) ⟨by decide, rfl⟩ rfl e2 (Nat.zero_le _) (Nat.zero_le _) (fun hp hB => ?_)
  show RnH [] G l mX0_breadth (d + 4) (PV ρ E A r σ1) noX 8 [.ref (A 0)] [.int r3, .ref (A 0)] (ov rgM A σ_1 hp) c k
  have hR : σ_1.2.2 0 0 = .ref (ρ.1 2) := by rw [e2.1]; exact hR
  obtain ⟨r6, σ_4, e5, h⟩ := h
  refine V_call (o := 0) [.int r3] hB hR dX0_breadth_8 cv_X0_303 rfl rfl (Nat.le_of_ble_eq_true rfl) ⟨by decide, rfl⟩ rfl e5 (Nat.zero_le _) (Nat.zero_le _) (fun hp hB => ?_)
  show RnH [] G l mX0_breadth (d + 4) (PV ρ E A r σ1) noX 11 [.ref (A 0)] [.int r6] (ov rgM A σ_4 hp) c k
  have hR : σ_4.2.2 0 0 = .ref (ρ.1 2) := by rw [e5.1]; exact hR
  exact R_iret dX0_breadth_11 rfl rfl ⟨h.1.symm, hp, hB, by rw [h.2]⟩
theorem gc_X0_cloth_0 {d : Nat} {c k : Nat} {ρ : Rho} {E : Hp → Prop} {A : Nat → Nat} {σ σ1 : Sg} {r : Option Value} (h : Rv ρ E A mX0_cloth (d + 4) c k 9 [.ref (A 0), .int 1, U_, U_, U_] [] (upA σ.1 23 (upd (σ.1 23) 0 0), σ.2) r σ1) : Rv ρ E A mX0_cloth (d + 4) c k 0 [.ref (A 0), U_, U_, U_, U_] [] σ r σ1 := by
  intro G l hp hB hR
  refine R_aload_n dX0_cloth_0 rfl ?_
  refine V_geta (o := 0) (q := 23) hB.1 dX0_cloth_1 fm_X0_83_1 ⟨by decide, by decide, rfl, rfl⟩ ?_
  refine R_iconst (v := 0) dX0_cloth_4 (by decide) ?_
  refine R_iconst (v := 0) dX0_cloth_5 (by decide) ?_
  refine V_iast (o := 23) (σ9 := (upA σ.1 23 (upd (σ.1 23) 0 0), σ.2)) hB.1 dX0_cloth_6 ⟨by decide, rfl⟩ (by unfold vp_in; decide) rfl ?_
  refine R_iconst (v := 1) dX0_cloth_7 (by decide) ?_
  refine S_istore_n (ls1 := [.ref (A 0), .int 1, U_, U_, U_]) dX0_cloth_8 (by decide) rfl rfl ?_
  exact h G l hp hB hR
theorem gc_X0_cloth_9 {d : Nat} {v1 : Int32} {c k : Nat} {ρ : Rho} {E : Hp → Prop} {A : Nat → Nat} {σ σ1 : Sg} {r : Option Value} (h : ∃ (r3 : Int32) (σ_1 : Sg), Tv ρ E A mX0_coats (d + 3) 0 0 [.ref (A 0)] σ (some (.int r3)) σ_1 ∧ ((((1 <<< (r3 &&& 31)) ≤ v1) → ∃ (r7 : Int32) (σ_5 : Sg), Tv ρ E A mX0_coats (d + 3) 0 0 [.ref (A 0)] σ_1 (some (.int r7)) σ_5 ∧ (vp_in ((1 <<< (r7 &&& 31)) - 1) 64 ∧ (r = some (.int (σ_5.1 23 ((1 <<< (r7 &&& 31)) - 1).toNatClampNeg)) ∧ σ1 = σ_5))) ∧ ((¬ (1 <<< (r3 &&& 31)) ≤ v1) → vp_in v1 64 ∧ (Rv ρ E A mX0_cloth (d + 4) c k 28 [.ref (A 0), .int v1, .int v1, U_, U_] [] (upA σ_1.1 23 (upd (σ_1.1 23) v1.toNatClampNeg (-1)), σ_1.2) r σ1)))) : Rv ρ E A mX0_cloth (d + 4) c k 9 [.ref (A 0), .int v1, U_, U_, U_] [] σ r σ1 := by
  intro G l hp hB hR
  refine R_iload_n dX0_cloth_9 rfl ?_
  refine R_iconst (v := 1) dX0_cloth_10 (by decide) ?_
  refine R_aload_n dX0_cloth_11 rfl ?_
  obtain ⟨r3, σ_1, e2, h⟩ := h
  refine V_call (o := 0) [] hB hR dX0_cloth_12 cv_X0_149 rfl rfl (Nat.le_of_ble_eq_true rfl) ⟨by decide, rfl⟩ rfl e2 (Nat.zero_le _) (Nat.zero_le _) (fun hp hB => ?_)
  show RnH [] G l mX0_cloth (d + 4) (PV ρ E A r σ1) noX 15 [.ref (A 0), .int v1, U_, U_, U_] [.int r3, .int 1, .int v1] (ov rgM A σ_1 hp) c k
  have hR : σ_1.2.2 0 0 = .ref (ρ.1 2) := by rw [e2.1]; exact hR
  refine R_ishl dX0_cloth_15 ?_
  refine R_icmp_ge 106 dX0_cloth_16 (by decide) (fun c4 => ?_) (fun c4 => ?_)
  · replace h := h.1 c4
    refine R_aload_n dX0_cloth_106 rfl ?_
    refine V_geta (o := 0) (q := 23) hB.1 dX0_cloth_107 fm_X0_83_1 ⟨by decide, by decide, rfl, rfl⟩ ?_
    refine R_iconst (v := 1) dX0_cloth_110 (by decide) ?_
    refine R_aload_n dX0_cloth_111 rfl ?_
    obtain ⟨r7, σ_5, e6, h⟩ := h
    refine V_call (o := 0) [] hB hR dX0_cloth_112 cv_X0_149 rfl rfl (Nat.le_of_ble_eq_true rfl) ⟨by decide, rfl⟩ rfl e6 (Nat.zero_le _) (Nat.zero_le _) (fun hp hB => ?_)
    show RnH [] G l mX0_cloth (d + 4) (PV ρ E A r σ1) noX 115 [.ref (A 0), .int v1, U_, U_, U_] [.int r7, .int 1, .ref (A 23)] (ov rgM A σ_5 hp) c k
    have hR : σ_5.2.2 0 0 = .ref (ρ.1 2) := by rw [e6.1]; exact hR
    refine R_ishl dX0_cloth_115 ?_
    refine R_iconst (v := 1) dX0_cloth_116 (by decide) ?_
    refine R_isub dX0_cloth_117 ?_
    have b8 := h.1
    replace h := h.2
    refine V_iald (o := 23) (x := σ_5.1 23 ((1 <<< (r7 &&& 31)) - 1).toNatClampNeg) hB.1 dX0_cloth_118 ⟨by decide, rfl⟩ b8 rfl ?_
    exact R_iret dX0_cloth_119 rfl rfl ⟨h.1.symm, hp, hB, by rw [h.2]⟩
  · replace h := h.2 c4
    refine R_aload_n dX0_cloth_19 rfl ?_
    refine V_geta (o := 0) (q := 23) hB.1 dX0_cloth_20 fm_X0_83_1 ⟨by decide, by decide, rfl, rfl⟩ ?_
    refine R_iload_n dX0_cloth_23 rfl ?_
    refine R_iconst (v := (-1)) dX0_cloth_24 (by decide) ?_
    have b9 := h.1
    replace h := h.2
    refine V_iast (o := 23) (σ9 := (upA σ_1.1 23 (upd (σ_1.1 23) v1.toNatClampNeg (-1)), σ_1.2)) hB.1 dX0_cloth_25 ⟨by decide, rfl⟩ b9 rfl ?_
    refine R_iload_n dX0_cloth_26 rfl ?_
    refine S_istore_n (ls1 := [.ref (A 0), .int v1, .int v1, U_, U_]) dX0_cloth_27 (by decide) rfl rfl ?_
    exact h G l hp hB hR
theorem gc_X0_cloth_28 {d : Nat} {v1 : Int32} {v2 : Int32} {c k : Nat} {ρ : Rho} {E : Hp → Prop} {A : Nat → Nat} {σ σ1 : Sg} {r : Option Value} (h : ((v2 ≤ 0) → Rv ρ E A mX0_cloth (d + 4) c k 9 [.ref (A 0), .int (v1 + 1), U_, U_, U_] [] σ r σ1) ∧ ((¬ v2 ≤ 0) → ∃ (r4 : Int32) (σ_2 : Sg), Tv ρ E A mX0_rowOf (d + 3) 0 0 [.ref (A 0), .int v2] σ (some (.int r4)) σ_2 ∧ (vp_in (v1 &&& (v2 ^^^ (-1))) 64 ∧ (((r4 < 0) → Rv ρ E A mX0_cloth (d + 4) c k 28 [.ref (A 0), .int v1, .int ((v2 - 1) &&& v1), U_, U_] [] σ_2 r σ1) ∧ ((¬ r4 < 0) → (((σ_2.1 23 (v1 &&& (v2 ^^^ (-1))).toNatClampNeg) < 0) → Rv ρ E A mX0_cloth (d + 4) c k 28 [.ref (A 0), .int v1, .int ((v2 - 1) &&& v1), U_, U_] [] σ_2 r σ1) ∧ ((¬ (σ_2.1 23 (v1 &&& (v2 ^^^ (-1))).toNatClampNeg) < 0) → vp_in v1 64 ∧ ((((σ_2.1 23 v1.toNatClampNeg) < 0) → Rv ρ E A mX0_cloth (d + 4) c k 28 [.ref (A 0), .int v1, .int ((v2 - 1) &&& v1), U_, U_] [] (upA σ_2.1 23 (upd (σ_2.1 23) v1.toNatClampNeg (r4 + (σ_2.1 23 (v1 &&& (v2 ^^^ (-1))).toNatClampNeg))), σ_2.2) r σ1) ∧ ((¬ (σ_2.1 23 v1.toNatClampNeg) < 0) → (((σ_2.1 23 v1.toNatClampNeg) ≤ (r4 + (σ_2.1 23 (v1 &&& (v2 ^^^ (-1))).toNatClampNeg))) → Rv ρ E A mX0_cloth (d + 4) c k 28 [.ref (A 0), .int v1, .int ((v2 - 1) &&& v1), U_, U_] [] σ_2 r σ1) ∧ ((¬ (σ_2.1 23 v1.toNatClampNeg) ≤ (r4 + (σ_2.1 23 (v1 &&& (v2 ^^^ (-1))).toNatClampNeg))) → Rv ρ E A mX0_cloth (d + 4) c k 28 [.ref (A 0), .int v1, .int ((v2 - 1) &&& v1), U_, U_] [] (upA σ_2.1 23 (upd (σ_2.1 23) v1.toNatClampNeg (r4 + (σ_2.1 23 (v1 &&& (v2 ^^^ (-1))).toNatClampNeg))), σ_2.2) r σ1))))))))) : Rv ρ E A mX0_cloth (d + 4) c k 28 [.ref (A 0), .int v1, .int v2, U_, U_] [] σ r σ1 := by
  intro G l hp hB hR
  refine R_iload_n dX0_cloth_28 rfl ?_
  refine R_if_le 100 dX0_cloth_29 (by decide) (fun c1 => ?_) (fun c1 => ?_)
  · replace h := h.1 c1
    refine S_iinc (v := v1 + 1) (ls1 := [.ref (A 0), .int (v1 + 1), .int v2, U_, U_]) dX0_cloth_100 rfl rfl (by decide) rfl rfl ?_
    refine R_goto 9 dX0_cloth_103 (by decide) ?_
    refine R_drop 2 ?_
    exact h G l hp hB hR
  · replace h := h.2 c1
    refine R_aload_n dX0_cloth_32 rfl ?_
    refine R_iload_n dX0_cloth_33 rfl ?_
    obtain ⟨r4, σ_2, e3, h⟩ := h
    refine V_call (o := 0) [.int v2] hB hR dX0_cloth_34 cv_X0_309 rfl rfl (Nat.le_of_ble_eq_true rfl) ⟨by decide, rfl⟩ rfl e3 (Nat.zero_le _) (Nat.zero_le _) (fun hp hB => ?_)
    show RnH [] G l mX0_cloth (d + 4) (PV ρ E A r σ1) noX 37 [.ref (A 0), .int v1, .int v2, U_, U_] [.int r4] (ov rgM A σ_2 hp) c k
    have hR : σ_2.2.2 0 0 = .ref (ρ.1 2) := by rw [e3.1]; exact hR
    refine S_istore_n (ls1 := [.ref (A 0), .int v1, .int v2, .int r4, U_]) dX0_cloth_37 (by decide) rfl rfl ?_
    refine R_aload_n dX0_cloth_38 rfl ?_
    refine V_geta (o := 0) (q := 23) hB.1 dX0_cloth_39 fm_X0_83_1 ⟨by decide, by decide, rfl, rfl⟩ ?_
    refine R_iload_n dX0_cloth_42 rfl ?_
    refine R_iload_n dX0_cloth_43 rfl ?_
    refine R_iconst (v := (-1)) dX0_cloth_44 (by decide) ?_
    refine R_ixor dX0_cloth_45 ?_
    refine R_iand dX0_cloth_46 ?_
    have b5 := h.1
    replace h := h.2
    refine V_iald (o := 23) (x := σ_2.1 23 (v1 &&& (v2 ^^^ (-1))).toNatClampNeg) hB.1 dX0_cloth_47 ⟨by decide, rfl⟩ b5 rfl ?_
    refine S_istore (ls1 := [.ref (A 0), .int v1, .int v2, .int r4, .int (σ_2.1 23 (v1 &&& (v2 ^^^ (-1))).toNatClampNeg)]) dX0_cloth_48 (by decide) rfl rfl ?_
    refine R_iload_n dX0_cloth_50 rfl ?_
    refine R_if_lt 91 dX0_cloth_51 (by decide) (fun c6 => ?_) (fun c6 => ?_)
    · replace h := h.1 c6
      refine R_iload_n dX0_cloth_91 rfl ?_
      refine R_iconst (v := 1) dX0_cloth_92 (by decide) ?_
      refine R_isub dX0_cloth_93 ?_
      refine R_iload_n dX0_cloth_94 rfl ?_
      refine R_iand dX0_cloth_95 ?_
      refine S_istore_n (ls1 := [.ref (A 0), .int v1, .int ((v2 - 1) &&& v1), .int r4, .int (σ_2.1 23 (v1 &&& (v2 ^^^ (-1))).toNatClampNeg)]) dX0_cloth_96 (by decide) rfl rfl ?_
      refine R_goto 28 dX0_cloth_97 (by decide) ?_
      refine R_drop 3 ?_
      refine R_drop 4 ?_
      exact h G l hp hB hR
    · replace h := h.2 c6
      refine R_iload dX0_cloth_54 rfl ?_
      refine R_if_lt 91 dX0_cloth_56 (by decide) (fun c7 => ?_) (fun c7 => ?_)
      · replace h := h.1 c7
        refine R_iload_n dX0_cloth_91 rfl ?_
        refine R_iconst (v := 1) dX0_cloth_92 (by decide) ?_
        refine R_isub dX0_cloth_93 ?_
        refine R_iload_n dX0_cloth_94 rfl ?_
        refine R_iand dX0_cloth_95 ?_
        refine S_istore_n (ls1 := [.ref (A 0), .int v1, .int ((v2 - 1) &&& v1), .int r4, .int (σ_2.1 23 (v1 &&& (v2 ^^^ (-1))).toNatClampNeg)]) dX0_cloth_96 (by decide) rfl rfl ?_
        refine R_goto 28 dX0_cloth_97 (by decide) ?_
        refine R_drop 3 ?_
        refine R_drop 4 ?_
        exact h G l hp hB hR
      · replace h := h.2 c7
        refine R_aload_n dX0_cloth_59 rfl ?_
        refine V_geta (o := 0) (q := 23) hB.1 dX0_cloth_60 fm_X0_83_1 ⟨by decide, by decide, rfl, rfl⟩ ?_
        refine R_iload_n dX0_cloth_63 rfl ?_
        have b8 := h.1
        replace h := h.2
        refine V_iald (o := 23) (x := σ_2.1 23 v1.toNatClampNeg) hB.1 dX0_cloth_64 ⟨by decide, rfl⟩ b8 rfl ?_
        refine R_if_lt 81 dX0_cloth_65 (by decide) (fun c9 => ?_) (fun c9 => ?_)
        · replace h := h.1 c9
          refine R_aload_n dX0_cloth_81 rfl ?_
          refine V_geta (o := 0) (q := 23) hB.1 dX0_cloth_82 fm_X0_83_1 ⟨by decide, by decide, rfl, rfl⟩ ?_
          refine R_iload_n dX0_cloth_85 rfl ?_
          refine R_iload_n dX0_cloth_86 rfl ?_
          refine R_iload dX0_cloth_87 rfl ?_
          refine R_iadd dX0_cloth_89 ?_
          refine V_iast (o := 23) (σ9 := (upA σ_2.1 23 (upd (σ_2.1 23) v1.toNatClampNeg (r4 + (σ_2.1 23 (v1 &&& (v2 ^^^ (-1))).toNatClampNeg))), σ_2.2)) hB.1 dX0_cloth_90 ⟨by decide, rfl⟩ b8 rfl ?_
          refine R_iload_n dX0_cloth_91 rfl ?_
          refine R_iconst (v := 1) dX0_cloth_92 (by decide) ?_
          refine R_isub dX0_cloth_93 ?_
          refine R_iload_n dX0_cloth_94 rfl ?_
          refine R_iand dX0_cloth_95 ?_
          refine S_istore_n (ls1 := [.ref (A 0), .int v1, .int ((v2 - 1) &&& v1), .int r4, .int (σ_2.1 23 (v1 &&& (v2 ^^^ (-1))).toNatClampNeg)]) dX0_cloth_96 (by decide) rfl rfl ?_
          refine R_goto 28 dX0_cloth_97 (by decide) ?_
          refine R_drop 3 ?_
          refine R_drop 4 ?_
          exact h G l hp hB hR
        · replace h := h.2 c9
          refine R_iload_n dX0_cloth_68 rfl ?_
          refine R_iload dX0_cloth_69 rfl ?_
          refine R_iadd dX0_cloth_71 ?_
          refine R_aload_n dX0_cloth_72 rfl ?_
          refine V_geta (o := 0) (q := 23) hB.1 dX0_cloth_73 fm_X0_83_1 ⟨by decide, by decide, rfl, rfl⟩ ?_
          refine R_iload_n dX0_cloth_76 rfl ?_
          refine V_iald (o := 23) (x := σ_2.1 23 v1.toNatClampNeg) hB.1 dX0_cloth_77 ⟨by decide, rfl⟩ b8 rfl ?_
          refine R_icmp_ge 91 dX0_cloth_78 (by decide) (fun c10 => ?_) (fun c10 => ?_)
          · replace h := h.1 c10
            refine R_iload_n dX0_cloth_91 rfl ?_
            refine R_iconst (v := 1) dX0_cloth_92 (by decide) ?_
            refine R_isub dX0_cloth_93 ?_
            refine R_iload_n dX0_cloth_94 rfl ?_
            refine R_iand dX0_cloth_95 ?_
            refine S_istore_n (ls1 := [.ref (A 0), .int v1, .int ((v2 - 1) &&& v1), .int r4, .int (σ_2.1 23 (v1 &&& (v2 ^^^ (-1))).toNatClampNeg)]) dX0_cloth_96 (by decide) rfl rfl ?_
            refine R_goto 28 dX0_cloth_97 (by decide) ?_
            refine R_drop 3 ?_
            refine R_drop 4 ?_
            exact h G l hp hB hR
          · replace h := h.2 c10
            refine R_aload_n dX0_cloth_81 rfl ?_
            refine V_geta (o := 0) (q := 23) hB.1 dX0_cloth_82 fm_X0_83_1 ⟨by decide, by decide, rfl, rfl⟩ ?_
            refine R_iload_n dX0_cloth_85 rfl ?_
            refine R_iload_n dX0_cloth_86 rfl ?_
            refine R_iload dX0_cloth_87 rfl ?_
            refine R_iadd dX0_cloth_89 ?_
            refine V_iast (o := 23) (σ9 := (upA σ_2.1 23 (upd (σ_2.1 23) v1.toNatClampNeg (r4 + (σ_2.1 23 (v1 &&& (v2 ^^^ (-1))).toNatClampNeg))), σ_2.2)) hB.1 dX0_cloth_90 ⟨by decide, rfl⟩ b8 rfl ?_
            refine R_iload_n dX0_cloth_91 rfl ?_
            refine R_iconst (v := 1) dX0_cloth_92 (by decide) ?_
            refine R_isub dX0_cloth_93 ?_
            refine R_iload_n dX0_cloth_94 rfl ?_
            refine R_iand dX0_cloth_95 ?_
            refine S_istore_n (ls1 := [.ref (A 0), .int v1, .int ((v2 - 1) &&& v1), .int r4, .int (σ_2.1 23 (v1 &&& (v2 ^^^ (-1))).toNatClampNeg)]) dX0_cloth_96 (by decide) rfl rfl ?_
            refine R_goto 28 dX0_cloth_97 (by decide) ?_
            refine R_drop 3 ?_
            refine R_drop 4 ?_
            exact h G l hp hB hR
theorem gc_X0_coat_0 {d : Nat} {v1 : Int32} {v2 : Int32} {c k : Nat} {ρ : Rho} {E : Hp → Prop} {A : Nat → Nat} {σ σ1 : Sg} {r : Option Value} (h : ∃ (r3 : Int32) (σ_1 : Sg), Tv ρ E A mX0_isCoat (d + 3) 0 0 [.ref (A 0), .int v1] σ (some (.int r3)) σ_1 ∧ (((¬ r3 = 0) → ((v2.toInt < 0 ∨ 5 < v2.toInt) → r = some (.int (-2)) ∧ σ1 = σ_1) ∧ (v2 = 0 → vp_in v1 6 ∧ (r = some (.int (σ_1.1 4 v1.toNatClampNeg)) ∧ σ1 = σ_1)) ∧ (v2 = 1 → vp_in v1 6 ∧ (r = some (.int (σ_1.1 5 v1.toNatClampNeg)) ∧ σ1 = σ_1)) ∧ (v2 = 2 → vp_in v1 6 ∧ (r = some (.int (σ_1.1 6 v1.toNatClampNeg)) ∧ σ1 = σ_1)) ∧ (v2 = 3 → vp_in v1 6 ∧ (r = some (.int (σ_1.1 7 v1.toNatClampNeg)) ∧ σ1 = σ_1)) ∧ (v2 = 4 → r = some (.int (((σ_1.1 1 6) >>> (v1 &&& 31)) &&& 1)) ∧ σ1 = σ_1) ∧ (v2 = 5 → ∃ (r11 : Int32) (σ_9 : Sg), Tv ρ E A mX2_wearer (d + 3) 0 0 [.ref (A 1), .int v1] σ_1 (some (.int r11)) σ_9 ∧ (r = some (.int r11) ∧ σ1 = σ_9))) ∧ ((r3 = 0) → r = some (.int (-2)) ∧ σ1 = σ_1))) : Rv ρ E A mX0_coat (d + 4) c k 0 [.ref (A 0), .int v1, .int v2] [] σ r σ1 := by
  intro G l hp hB hR
  refine R_aload_n dX0_coat_0 rfl ?_
  refine R_iload_n dX0_coat_1 rfl ?_
  obtain ⟨r3, σ_1, e2, h⟩ := h
  refine V_call (o := 0) [.int v1] hB hR dX0_coat_2 cv_X0_205 rfl rfl (Nat.le_of_ble_eq_true rfl) ⟨by decide, rfl⟩ rfl e2 (Nat.zero_le _) (Nat.zero_le _) (fun hp hB => ?_)
  show RnH [] G l mX0_coat (d + 4) (PV ρ E A r σ1) noX 5 [.ref (A 0), .int v1, .int v2] [.int r3] (ov rgM A σ_1 hp) c k
  have hR : σ_1.2.2 0 0 = .ref (ρ.1 2) := by rw [e2.1]; exact hR
  refine R_if_ne 11 dX0_coat_5 (by decide) (fun c4 => ?_) (fun c4 => ?_)
  · replace h := h.1 c4
    refine R_iload_n dX0_coat_11 rfl ?_
    by_cases hlo : v2.toInt < 0 ∨ 5 < v2.toInt
    · replace h := h.1 hlo
      refine R_tabOut 113 dX0_coat_12 hlo (by decide) ?_
      refine R_bipush (v := (-2)) dX0_coat_113 (by decide) ?_
      exact R_iret dX0_coat_115 rfl rfl ⟨h.1.symm, hp, hB, by rw [h.2]⟩
    · replace h := h.2
      rcases (show v2.toInt = 0 ∨ v2.toInt = 1 ∨ v2.toInt = 2 ∨ v2.toInt = 3 ∨ v2.toInt = 4 ∨ v2.toInt = 5 by omega) with e9 | e9 | e9 | e9 | e9 | e9
      · replace e9 : v2 = 0 := Int32.toInt_inj.mp (e9.trans (by decide))
        replace h := h.1 e9
        subst e9
        refine R_tabIn 52 dX0_coat_12 (by decide) (by decide) rfl (by decide) ?_
        refine R_aload_n dX0_coat_52 rfl ?_
        refine V_geta (o := 0) (q := 1) hB.1 dX0_coat_53 fm_X0_28_1 ⟨by decide, by decide, rfl, rfl⟩ ?_
        refine V_geta (o := 1) (q := 4) hB.1 dX0_coat_56 fm_X0_208_3 ⟨by decide, by decide, rfl, rfl⟩ ?_
        refine R_iload_n dX0_coat_59 rfl ?_
        have b5 := h.1
        replace h := h.2
        refine V_iald (o := 4) (x := σ_1.1 4 v1.toNatClampNeg) hB.1 dX0_coat_60 ⟨by decide, rfl⟩ b5 rfl ?_
        exact R_iret dX0_coat_61 rfl rfl ⟨h.1.symm, hp, hB, by rw [h.2]⟩
      · replace e9 : v2 = 1 := Int32.toInt_inj.mp (e9.trans (by decide))
        replace h := h.2.1 e9
        subst e9
        refine R_tabIn 62 dX0_coat_12 (by decide) (by decide) rfl (by decide) ?_
        refine R_aload_n dX0_coat_62 rfl ?_
        refine V_geta (o := 0) (q := 1) hB.1 dX0_coat_63 fm_X0_28_1 ⟨by decide, by decide, rfl, rfl⟩ ?_
        refine V_geta (o := 1) (q := 5) hB.1 dX0_coat_66 fm_X0_210_3 ⟨by decide, by decide, rfl, rfl⟩ ?_
        refine R_iload_n dX0_coat_69 rfl ?_
        have b6 := h.1
        replace h := h.2
        refine V_iald (o := 5) (x := σ_1.1 5 v1.toNatClampNeg) hB.1 dX0_coat_70 ⟨by decide, rfl⟩ b6 rfl ?_
        exact R_iret dX0_coat_71 rfl rfl ⟨h.1.symm, hp, hB, by rw [h.2]⟩
      · replace e9 : v2 = 2 := Int32.toInt_inj.mp (e9.trans (by decide))
        replace h := h.2.2.1 e9
        subst e9
        refine R_tabIn 72 dX0_coat_12 (by decide) (by decide) rfl (by decide) ?_
        refine R_aload_n dX0_coat_72 rfl ?_
        refine V_geta (o := 0) (q := 1) hB.1 dX0_coat_73 fm_X0_28_1 ⟨by decide, by decide, rfl, rfl⟩ ?_
        refine V_geta (o := 1) (q := 6) hB.1 dX0_coat_76 fm_X0_213_3 ⟨by decide, by decide, rfl, rfl⟩ ?_
        refine R_iload_n dX0_coat_79 rfl ?_
        have b7 := h.1
        replace h := h.2
        refine V_iald (o := 6) (x := σ_1.1 6 v1.toNatClampNeg) hB.1 dX0_coat_80 ⟨by decide, rfl⟩ b7 rfl ?_
        exact R_iret dX0_coat_81 rfl rfl ⟨h.1.symm, hp, hB, by rw [h.2]⟩
      · replace e9 : v2 = 3 := Int32.toInt_inj.mp (e9.trans (by decide))
        replace h := h.2.2.2.1 e9
        subst e9
        refine R_tabIn 82 dX0_coat_12 (by decide) (by decide) rfl (by decide) ?_
        refine R_aload_n dX0_coat_82 rfl ?_
        refine V_geta (o := 0) (q := 1) hB.1 dX0_coat_83 fm_X0_28_1 ⟨by decide, by decide, rfl, rfl⟩ ?_
        refine V_geta (o := 1) (q := 7) hB.1 dX0_coat_86 fm_X0_216_3 ⟨by decide, by decide, rfl, rfl⟩ ?_
        refine R_iload_n dX0_coat_89 rfl ?_
        have b8 := h.1
        replace h := h.2
        refine V_iald (o := 7) (x := σ_1.1 7 v1.toNatClampNeg) hB.1 dX0_coat_90 ⟨by decide, rfl⟩ b8 rfl ?_
        exact R_iret dX0_coat_91 rfl rfl ⟨h.1.symm, hp, hB, by rw [h.2]⟩
      · replace e9 : v2 = 4 := Int32.toInt_inj.mp (e9.trans (by decide))
        replace h := h.2.2.2.2.1 e9
        subst e9
        refine R_tabIn 92 dX0_coat_12 (by decide) (by decide) rfl (by decide) ?_
        refine R_aload_n dX0_coat_92 rfl ?_
        refine V_geta (o := 0) (q := 1) hB.1 dX0_coat_93 fm_X0_28_1 ⟨by decide, by decide, rfl, rfl⟩ ?_
        refine V_get (o := 1) (x := σ_1.1 1 6) hB.1 dX0_coat_96 fm_X0_219_3 ⟨by decide, by decide, rfl, rfl⟩ rfl ?_
        refine R_iload_n dX0_coat_99 rfl ?_
        refine R_ishr dX0_coat_100 ?_
        refine R_iconst (v := 1) dX0_coat_101 (by decide) ?_
        refine R_iand dX0_coat_102 ?_
        exact R_iret dX0_coat_103 rfl rfl ⟨h.1.symm, hp, hB, by rw [h.2]⟩
      · replace e9 : v2 = 5 := Int32.toInt_inj.mp (e9.trans (by decide))
        replace h := h.2.2.2.2.2 e9
        subst e9
        refine R_tabIn 104 dX0_coat_12 (by decide) (by decide) rfl (by decide) ?_
        refine R_aload_n dX0_coat_104 rfl ?_
        refine V_geta (o := 0) (q := 1) hB.1 dX0_coat_105 fm_X0_28_1 ⟨by decide, by decide, rfl, rfl⟩ ?_
        refine R_iload_n dX0_coat_108 rfl ?_
        obtain ⟨r11, σ_9, e10, h⟩ := h
        refine V_call (o := 1) [.int v1] hB hR dX0_coat_109 cv_X0_222 rfl rfl (Nat.le_of_ble_eq_true rfl) ⟨by decide, rfl⟩ rfl e10 (Nat.zero_le _) (Nat.zero_le _) (fun hp hB => ?_)
        show RnH [] G l mX0_coat (d + 4) (PV ρ E A r σ1) noX 112 [.ref (A 0), .int v1, .int 5] [.int r11] (ov rgM A σ_9 hp) c k
        have hR : σ_9.2.2 0 0 = .ref (ρ.1 2) := by rw [e10.1]; exact hR
        exact R_iret dX0_coat_112 rfl rfl ⟨h.1.symm, hp, hB, by rw [h.2]⟩
  · replace h := h.2 c4
    refine R_bipush (v := (-2)) dX0_coat_8 (by decide) ?_
    exact R_iret dX0_coat_10 rfl rfl ⟨h.1.symm, hp, hB, by rw [h.2]⟩
theorem gc_X2_beginn_0 {d : Nat} {c k : Nat} {ρ : Rho} {E : Hp → Prop} {A : Nat → Nat} {σ σ1 : Sg} {r : Option Value} (h : Rv ρ E A mX2_begin (d + 4) c k 2 [.ref (A 1), .ref (ρ.1 2), .int 0, U_] [] σ r σ1) : Rv ρ E A mX2_begin (d + 4) c k 0 [.ref (A 1), .ref (ρ.1 2), U_, U_] [] σ r σ1 := by
  intro G l hp hB hR
  refine R_iconst (v := 0) dX2_begin_0 (by decide) ?_
  refine S_istore_n (ls1 := [.ref (A 1), .ref (ρ.1 2), .int 0, U_]) dX2_begin_1 (by decide) rfl rfl ?_
  exact h G l hp hB hR
theorem gc_X2_beginn_2 {d : Nat} {v2 : Int32} {c k : Nat} {ρ : Rho} {E : Hp → Prop} {A : Nat → Nat} {σ σ1 : Sg} {r : Option Value} (h : ((6 ≤ v2) → Rv ρ E A mX2_begin (d + 4) c k 58 [.ref (A 1), .ref (ρ.1 2), .int 0, U_] [] σ r σ1) ∧ ((¬ 6 ≤ v2) → (((nI (ρ.1 0)) ≤ v2) → vp_in v2 6 ∧ (Rv ρ E A mX2_begin (d + 4) c k 2 [.ref (A 1), .ref (ρ.1 2), .int (v2 + 1), U_] [] (upA (upA σ.1 2 (upd (σ.1 2) v2.toNatClampNeg 0)) 3 (upd (σ.1 3) v2.toNatClampNeg (-1)), σ.2) r σ1)) ∧ ((¬ (nI (ρ.1 0)) ≤ v2) → vp_in v2 (ρ.1 0) ∧ (vp_in v2 6 ∧ (Rv ρ E A mX2_begin (d + 4) c k 2 [.ref (A 1), .ref (ρ.1 2), .int (v2 + 1), U_] [] (upA (upA σ.1 2 (upd (σ.1 2) v2.toNatClampNeg (mnI ρ v2.toNatClampNeg 2))) 3 (upd (σ.1 3) v2.toNatClampNeg (-1)), σ.2) r σ1))))) : Rv ρ E A mX2_begin (d + 4) c k 2 [.ref (A 1), .ref (ρ.1 2), .int v2, U_] [] σ r σ1 := by
  intro G l hp hB hR
  refine R_iload_n dX2_begin_2 rfl ?_
  refine R_bipush (v := 6) dX2_begin_3 (by decide) ?_
  refine R_icmp_ge 56 dX2_begin_5 (by decide) (fun c1 => ?_) (fun c1 => ?_)
  · replace h := h.1 c1
    refine R_iconst (v := 0) dX2_begin_56 (by decide) ?_
    refine S_istore_n (ls1 := [.ref (A 1), .ref (ρ.1 2), .int 0, U_]) dX2_begin_57 (by decide) rfl rfl ?_
    exact h G l hp hB hR
  · replace h := h.2 c1
    refine R_aload_n dX2_begin_8 rfl ?_
    refine V_geta (o := 1) (q := 2) hB.1 dX2_begin_9 fm_X2_9_3 ⟨by decide, by decide, rfl, rfl⟩ ?_
    refine R_iload_n dX2_begin_12 rfl ?_
    refine R_iload_n dX2_begin_13 rfl ?_
    refine R_aload_n dX2_begin_14 rfl ?_
    refine V_rget (v := .ref (ρ.1 3)) hB dX2_begin_15 fm_X2_46_2 rfl ?_
    refine V_size (w := 0) hB (by decide) dX2_begin_18 cv_X2_52 (Nat.le_of_ble_eq_true rfl) ?_
    refine R_icmp_ge 41 dX2_begin_21 (by decide) (fun c2 => ?_) (fun c2 => ?_)
    · replace h := h.1 c2
      refine R_iconst (v := 0) dX2_begin_41 (by decide) ?_
      have b3 := h.1
      replace h := h.2
      refine V_iast (o := 2) (σ9 := (upA σ.1 2 (upd (σ.1 2) v2.toNatClampNeg 0), σ.2)) hB.1 dX2_begin_42 ⟨by decide, rfl⟩ b3 rfl ?_
      refine R_aload_n dX2_begin_43 rfl ?_
      refine V_geta (o := 1) (q := 3) hB.1 dX2_begin_44 fm_X2_15_3 ⟨by decide, by decide, rfl, rfl⟩ ?_
      refine R_iload_n dX2_begin_47 rfl ?_
      refine R_iconst (v := (-1)) dX2_begin_48 (by decide) ?_
      refine V_iast (o := 3) (σ9 := (upA (upA σ.1 2 (upd (σ.1 2) v2.toNatClampNeg 0)) 3 (upd (σ.1 3) v2.toNatClampNeg (-1)), σ.2)) hB.1 dX2_begin_49 ⟨by decide, rfl⟩ b3 rfl ?_
      refine S_iinc (v := v2 + 1) (ls1 := [.ref (A 1), .ref (ρ.1 2), .int (v2 + 1), U_]) dX2_begin_50 rfl rfl (by decide) rfl rfl ?_
      refine R_goto 2 dX2_begin_53 (by decide) ?_
      exact h G l hp hB hR
    · replace h := h.2 c2
      refine R_aload_n dX2_begin_24 rfl ?_
      refine V_rget (v := .ref (ρ.1 3)) hB dX2_begin_25 fm_X2_46_2 rfl ?_
      refine R_iload_n dX2_begin_28 rfl ?_
      have b4 := h.1
      replace h := h.2
      refine V_lget (w := 0) (i := v2) hB (by decide) b4 dX2_begin_29 cv_X2_58 (Nat.le_of_ble_eq_true rfl) ?_
      refine V_mcast (i := v2) hB b4 dX2_begin_32 q445 ?_
      refine V_mget (i := v2) (x := mnI ρ v2.toNatClampNeg 2) hB b4 dX2_begin_35 fm_X2_64_9 (by decide) rfl ?_
      refine R_goto 42 dX2_begin_38 (by decide) ?_
      have b5 := h.1
      replace h := h.2
      refine V_iast (o := 2) (σ9 := (upA σ.1 2 (upd (σ.1 2) v2.toNatClampNeg (mnI ρ v2.toNatClampNeg 2)), σ.2)) hB.1 dX2_begin_42 ⟨by decide, rfl⟩ b5 rfl ?_
      refine R_aload_n dX2_begin_43 rfl ?_
      refine V_geta (o := 1) (q := 3) hB.1 dX2_begin_44 fm_X2_15_3 ⟨by decide, by decide, rfl, rfl⟩ ?_
      refine R_iload_n dX2_begin_47 rfl ?_
      refine R_iconst (v := (-1)) dX2_begin_48 (by decide) ?_
      refine V_iast (o := 3) (σ9 := (upA (upA σ.1 2 (upd (σ.1 2) v2.toNatClampNeg (mnI ρ v2.toNatClampNeg 2))) 3 (upd (σ.1 3) v2.toNatClampNeg (-1)), σ.2)) hB.1 dX2_begin_49 ⟨by decide, rfl⟩ b5 rfl ?_
      refine S_iinc (v := v2 + 1) (ls1 := [.ref (A 1), .ref (ρ.1 2), .int (v2 + 1), U_]) dX2_begin_50 rfl rfl (by decide) rfl rfl ?_
      refine R_goto 2 dX2_begin_53 (by decide) ?_
      exact h G l hp hB hR
theorem gc_X2_beginn_58 {d : Nat} {v2 : Int32} {c k : Nat} {ρ : Rho} {E : Hp → Prop} {A : Nat → Nat} {σ σ1 : Sg} {r : Option Value} (h : ((6 ≤ v2) → r = none ∧ σ1 = (upA σ.1 1 (upd (upd (upd (σ.1 1) 6 0) 7 0) 8 (rgI ρ 13)), σ.2)) ∧ ((¬ 6 ≤ v2) → Rv ρ E A mX2_begin (d + 4) c k 80 [.ref (A 1), .ref (ρ.1 2), .int v2, U_] [.int (if (nI (ρ.1 1)) ≤ v2 then 0 else 1)] σ r σ1)) : Rv ρ E A mX2_begin (d + 4) c k 58 [.ref (A 1), .ref (ρ.1 2), .int v2, U_] [] σ r σ1 := by
  intro G l hp hB hR
  refine R_iload_n dX2_begin_58 rfl ?_
  refine R_bipush (v := 6) dX2_begin_59 (by decide) ?_
  refine R_icmp_ge 199 dX2_begin_61 (by decide) (fun c1 => ?_) (fun c1 => ?_)
  · replace h := h.1 c1
    refine R_aload_n dX2_begin_199 rfl ?_
    refine R_iconst (v := 0) dX2_begin_200 (by decide) ?_
    refine V_put (o := 1) (σ9 := (upA σ.1 1 (upd (σ.1 1) 6 0), σ.2)) hB.1 dX2_begin_201 fm_X2_36_3 ft_3_6 rfl rfl ⟨by decide, by decide, rfl, rfl⟩ rfl ?_
    refine R_aload_n dX2_begin_204 rfl ?_
    refine R_iconst (v := 0) dX2_begin_205 (by decide) ?_
    refine V_put (o := 1) (σ9 := (upA σ.1 1 (upd (upd (σ.1 1) 6 0) 7 0), σ.2)) hB.1 dX2_begin_206 fm_X2_40_3 ft_3_7 rfl rfl ⟨by decide, by decide, rfl, rfl⟩ (up8c σ.1 1 (upd (σ.1 1) 6 0) (upd (upd (σ.1 1) 6 0) 7 0) σ.2) ?_
    refine R_aload_n dX2_begin_209 rfl ?_
    refine R_aload_n dX2_begin_210 rfl ?_
    refine V_rget (v := .int (rgI ρ 13)) hB dX2_begin_211 fm_X2_78_2 rfl ?_
    refine V_put (o := 1) (σ9 := (upA σ.1 1 (upd (upd (upd (σ.1 1) 6 0) 7 0) 8 (rgI ρ 13)), σ.2)) hB.1 dX2_begin_214 fm_X2_43_3 ft_3_8 rfl rfl ⟨by decide, by decide, rfl, rfl⟩ (up8c σ.1 1 (upd (upd (σ.1 1) 6 0) 7 0) (upd (upd (upd (σ.1 1) 6 0) 7 0) 8 (rgI ρ 13)) σ.2) ?_
    exact R_vret dX2_begin_217 rfl ⟨h.1.symm, hp, hB, by rw [h.2]⟩
  · replace h := h.2 c1
    refine R_iload_n dX2_begin_64 rfl ?_
    refine R_aload_n dX2_begin_65 rfl ?_
    refine V_rget (v := .ref (ρ.1 5)) hB dX2_begin_66 fm_X2_66_2 rfl ?_
    refine V_size (w := 1) hB (by decide) dX2_begin_69 cv_X2_52 (Nat.le_of_ble_eq_true rfl) ?_
    have J2 : RnH [] G l mX2_begin (d + 4) (PV ρ E A r σ1) noX 80 [.ref (A 1), .ref (ρ.1 2), .int v2, U_] [.int (if (nI (ρ.1 1)) ≤ v2 then 0 else 1)] (ov rgM A σ hp) c k := by
      exact h G l hp hB hR
    refine R_icmp_ge 79 dX2_begin_72 (by decide) (fun c3 => ?_) (fun c3 => ?_)
    · refine R_iconst (v := 0) dX2_begin_79 (by decide) ?_
      simp only [if_pos c3] at J2
      first | exact J2 | (simp only [if_pos c3]; exact J2)
    · refine R_iconst (v := 1) dX2_begin_75 (by decide) ?_
      refine R_goto 80 dX2_begin_76 (by decide) ?_
      simp only [if_neg c3] at J2
      first | exact J2 | (simp only [if_neg c3]; exact J2)
theorem gc_X2_beginn_80_1 {d : Nat} {v2 : Int32} {t0 : Int32} {c k : Nat} {ρ : Rho} {E : Hp → Prop} {A : Nat → Nat} {σ σ1 : Sg} {r : Option Value} (h : ((t0 = 0) → Rv ρ E A mX2_begin (d + 4) c k 108 [.ref (A 1), .ref (ρ.1 2), .int v2, .int t0] [.int 0, .int v2, .ref (A 4)] σ r σ1) ∧ ((¬ t0 = 0) → vp_in v2 (ρ.1 1) ∧ (Rv ρ E A mX2_begin (d + 4) c k 108 [.ref (A 1), .ref (ρ.1 2), .int v2, .int t0] [.int (ctI ρ v2.toNatClampNeg 1), .int v2, .ref (A 4)] σ r σ1))) : Rv ρ E A mX2_begin (d + 4) c k 80 [.ref (A 1), .ref (ρ.1 2), .int v2, U_] [.int t0] σ r σ1 := by
  intro G l hp hB hR
  refine S_istore_n (ls1 := [.ref (A 1), .ref (ρ.1 2), .int v2, .int t0]) dX2_begin_80 (by decide) rfl rfl ?_
  refine R_aload_n dX2_begin_81 rfl ?_
  refine V_geta (o := 1) (q := 4) hB.1 dX2_begin_82 fm_X2_18_3 ⟨by decide, by decide, rfl, rfl⟩ ?_
  refine R_iload_n dX2_begin_85 rfl ?_
  refine R_iload_n dX2_begin_86 rfl ?_
  refine R_if_eq 107 dX2_begin_87 (by decide) (fun c1 => ?_) (fun c1 => ?_)
  · replace h := h.1 c1
    refine R_iconst (v := 0) dX2_begin_107 (by decide) ?_
    exact h G l hp hB hR
  · replace h := h.2 c1
    refine R_aload_n dX2_begin_90 rfl ?_
    refine V_rget (v := .ref (ρ.1 5)) hB dX2_begin_91 fm_X2_66_2 rfl ?_
    refine R_iload_n dX2_begin_94 rfl ?_
    have b2 := h.1
    replace h := h.2
    refine V_lget (w := 1) (i := v2) hB (by decide) b2 dX2_begin_95 cv_X2_58 (Nat.le_of_ble_eq_true rfl) ?_
    refine V_ccast (i := v2) hB b2 dX2_begin_98 q446 ?_
    refine V_cget (i := v2) (x := ctI ρ v2.toNatClampNeg 1) hB b2 dX2_begin_101 fm_X2_71_10 (by decide) rfl ?_
    refine R_goto 108 dX2_begin_104 (by decide) ?_
    exact h G l hp hB hR
theorem gc_X2_beginn_108_3 {d : Nat} {v2 : Int32} {v3 : Int32} {t1 : Int32} {t2 : Int32} {c k : Nat} {ρ : Rho} {E : Hp → Prop} {A : Nat → Nat} {σ σ1 : Sg} {r : Option Value} (h : vp_in t1 6 ∧ (((v3 = 0) → Rv ρ E A mX2_begin (d + 4) c k 136 [.ref (A 1), .ref (ρ.1 2), .int v2, .int v3] [.int 0, .int v2, .ref (A 5)] (upA σ.1 4 (upd (σ.1 4) t1.toNatClampNeg t2), σ.2) r σ1) ∧ ((¬ v3 = 0) → vp_in v2 (ρ.1 1) ∧ (Rv ρ E A mX2_begin (d + 4) c k 136 [.ref (A 1), .ref (ρ.1 2), .int v2, .int v3] [.int (ctI ρ v2.toNatClampNeg 2), .int v2, .ref (A 5)] (upA σ.1 4 (upd (σ.1 4) t1.toNatClampNeg t2), σ.2) r σ1)))) : Rv ρ E A mX2_begin (d + 4) c k 108 [.ref (A 1), .ref (ρ.1 2), .int v2, .int v3] [.int t2, .int t1, .ref (A 4)] σ r σ1 := by
  intro G l hp hB hR
  have b1 := h.1
  replace h := h.2
  refine V_iast (o := 4) (σ9 := (upA σ.1 4 (upd (σ.1 4) t1.toNatClampNeg t2), σ.2)) hB.1 dX2_begin_108 ⟨by decide, rfl⟩ b1 rfl ?_
  refine R_aload_n dX2_begin_109 rfl ?_
  refine V_geta (o := 1) (q := 5) hB.1 dX2_begin_110 fm_X2_21_3 ⟨by decide, by decide, rfl, rfl⟩ ?_
  refine R_iload_n dX2_begin_113 rfl ?_
  refine R_iload_n dX2_begin_114 rfl ?_
  refine R_if_eq 135 dX2_begin_115 (by decide) (fun c2 => ?_) (fun c2 => ?_)
  · replace h := h.1 c2
    refine R_iconst (v := 0) dX2_begin_135 (by decide) ?_
    exact h G l hp hB hR
  · replace h := h.2 c2
    refine R_aload_n dX2_begin_118 rfl ?_
    refine V_rget (v := .ref (ρ.1 5)) hB dX2_begin_119 fm_X2_66_2 rfl ?_
    refine R_iload_n dX2_begin_122 rfl ?_
    have b3 := h.1
    replace h := h.2
    refine V_lget (w := 1) (i := v2) hB (by decide) b3 dX2_begin_123 cv_X2_58 (Nat.le_of_ble_eq_true rfl) ?_
    refine V_ccast (i := v2) hB b3 dX2_begin_126 q446 ?_
    refine V_cget (i := v2) (x := ctI ρ v2.toNatClampNeg 2) hB b3 dX2_begin_129 fm_X2_73_10 (by decide) rfl ?_
    refine R_goto 136 dX2_begin_132 (by decide) ?_
    exact h G l hp hB hR
theorem gc_X2_beginn_136_3 {d : Nat} {v2 : Int32} {v3 : Int32} {t1 : Int32} {t2 : Int32} {c k : Nat} {ρ : Rho} {E : Hp → Prop} {A : Nat → Nat} {σ σ1 : Sg} {r : Option Value} (h : vp_in t1 6 ∧ (((v3 = 0) → Rv ρ E A mX2_begin (d + 4) c k 164 [.ref (A 1), .ref (ρ.1 2), .int v2, .int v3] [.int 0, .int v2, .ref (A 6)] (upA σ.1 5 (upd (σ.1 5) t1.toNatClampNeg t2), σ.2) r σ1) ∧ ((¬ v3 = 0) → vp_in v2 (ρ.1 1) ∧ (Rv ρ E A mX2_begin (d + 4) c k 164 [.ref (A 1), .ref (ρ.1 2), .int v2, .int v3] [.int (ctI ρ v2.toNatClampNeg 3), .int v2, .ref (A 6)] (upA σ.1 5 (upd (σ.1 5) t1.toNatClampNeg t2), σ.2) r σ1)))) : Rv ρ E A mX2_begin (d + 4) c k 136 [.ref (A 1), .ref (ρ.1 2), .int v2, .int v3] [.int t2, .int t1, .ref (A 5)] σ r σ1 := by
  intro G l hp hB hR
  have b1 := h.1
  replace h := h.2
  refine V_iast (o := 5) (σ9 := (upA σ.1 5 (upd (σ.1 5) t1.toNatClampNeg t2), σ.2)) hB.1 dX2_begin_136 ⟨by decide, rfl⟩ b1 rfl ?_
  refine R_aload_n dX2_begin_137 rfl ?_
  refine V_geta (o := 1) (q := 6) hB.1 dX2_begin_138 fm_X2_24_3 ⟨by decide, by decide, rfl, rfl⟩ ?_
  refine R_iload_n dX2_begin_141 rfl ?_
  refine R_iload_n dX2_begin_142 rfl ?_
  refine R_if_eq 163 dX2_begin_143 (by decide) (fun c2 => ?_) (fun c2 => ?_)
  · replace h := h.1 c2
    refine R_iconst (v := 0) dX2_begin_163 (by decide) ?_
    exact h G l hp hB hR
  · replace h := h.2 c2
    refine R_aload_n dX2_begin_146 rfl ?_
    refine V_rget (v := .ref (ρ.1 5)) hB dX2_begin_147 fm_X2_66_2 rfl ?_
    refine R_iload_n dX2_begin_150 rfl ?_
    have b3 := h.1
    replace h := h.2
    refine V_lget (w := 1) (i := v2) hB (by decide) b3 dX2_begin_151 cv_X2_58 (Nat.le_of_ble_eq_true rfl) ?_
    refine V_ccast (i := v2) hB b3 dX2_begin_154 q446 ?_
    refine V_cget (i := v2) (x := ctI ρ v2.toNatClampNeg 3) hB b3 dX2_begin_157 fm_X2_74_10 (by decide) rfl ?_
    refine R_goto 164 dX2_begin_160 (by decide) ?_
    exact h G l hp hB hR
theorem gc_X2_beginn_164_3 {d : Nat} {v2 : Int32} {v3 : Int32} {t1 : Int32} {t2 : Int32} {c k : Nat} {ρ : Rho} {E : Hp → Prop} {A : Nat → Nat} {σ σ1 : Sg} {r : Option Value} (h : vp_in t1 6 ∧ (((v3 = 0) → vp_in v2 6 ∧ (Rv ρ E A mX2_begin (d + 4) c k 58 [.ref (A 1), .ref (ρ.1 2), .int (v2 + 1), U_] [] (upA (upA σ.1 6 (upd (σ.1 6) t1.toNatClampNeg t2)) 7 (upd (σ.1 7) v2.toNatClampNeg 0), σ.2) r σ1)) ∧ ((¬ v3 = 0) → vp_in v2 (ρ.1 1) ∧ (vp_in v2 6 ∧ (Rv ρ E A mX2_begin (d + 4) c k 58 [.ref (A 1), .ref (ρ.1 2), .int (v2 + 1), U_] [] (upA (upA σ.1 6 (upd (σ.1 6) t1.toNatClampNeg t2)) 7 (upd (σ.1 7) v2.toNatClampNeg (ctI ρ v2.toNatClampNeg 4)), σ.2) r σ1))))) : Rv ρ E A mX2_begin (d + 4) c k 164 [.ref (A 1), .ref (ρ.1 2), .int v2, .int v3] [.int t2, .int t1, .ref (A 6)] σ r σ1 := by
  intro G l hp hB hR
  have b1 := h.1
  replace h := h.2
  refine V_iast (o := 6) (σ9 := (upA σ.1 6 (upd (σ.1 6) t1.toNatClampNeg t2), σ.2)) hB.1 dX2_begin_164 ⟨by decide, rfl⟩ b1 rfl ?_
  refine R_aload_n dX2_begin_165 rfl ?_
  refine V_geta (o := 1) (q := 7) hB.1 dX2_begin_166 fm_X2_27_3 ⟨by decide, by decide, rfl, rfl⟩ ?_
  refine R_iload_n dX2_begin_169 rfl ?_
  refine R_iload_n dX2_begin_170 rfl ?_
  refine R_if_eq 191 dX2_begin_171 (by decide) (fun c2 => ?_) (fun c2 => ?_)
  · replace h := h.1 c2
    refine R_iconst (v := 0) dX2_begin_191 (by decide) ?_
    have b3 := h.1
    replace h := h.2
    refine V_iast (o := 7) (σ9 := (upA (upA σ.1 6 (upd (σ.1 6) t1.toNatClampNeg t2)) 7 (upd (σ.1 7) v2.toNatClampNeg 0), σ.2)) hB.1 dX2_begin_192 ⟨by decide, rfl⟩ b3 rfl ?_
    refine S_iinc (v := v2 + 1) (ls1 := [.ref (A 1), .ref (ρ.1 2), .int (v2 + 1), .int v3]) dX2_begin_193 rfl rfl (by decide) rfl rfl ?_
    refine R_goto 58 dX2_begin_196 (by decide) ?_
    refine R_drop 3 ?_
    exact h G l hp hB hR
  · replace h := h.2 c2
    refine R_aload_n dX2_begin_174 rfl ?_
    refine V_rget (v := .ref (ρ.1 5)) hB dX2_begin_175 fm_X2_66_2 rfl ?_
    refine R_iload_n dX2_begin_178 rfl ?_
    have b4 := h.1
    replace h := h.2
    refine V_lget (w := 1) (i := v2) hB (by decide) b4 dX2_begin_179 cv_X2_58 (Nat.le_of_ble_eq_true rfl) ?_
    refine V_ccast (i := v2) hB b4 dX2_begin_182 q446 ?_
    refine V_cget (i := v2) (x := ctI ρ v2.toNatClampNeg 4) hB b4 dX2_begin_185 fm_X2_76_10 (by decide) rfl ?_
    refine R_goto 192 dX2_begin_188 (by decide) ?_
    have b5 := h.1
    replace h := h.2
    refine V_iast (o := 7) (σ9 := (upA (upA σ.1 6 (upd (σ.1 6) t1.toNatClampNeg t2)) 7 (upd (σ.1 7) v2.toNatClampNeg (ctI ρ v2.toNatClampNeg 4)), σ.2)) hB.1 dX2_begin_192 ⟨by decide, rfl⟩ b5 rfl ?_
    refine S_iinc (v := v2 + 1) (ls1 := [.ref (A 1), .ref (ρ.1 2), .int (v2 + 1), .int v3]) dX2_begin_193 rfl rfl (by decide) rfl rfl ?_
    refine R_goto 58 dX2_begin_196 (by decide) ?_
    refine R_drop 3 ?_
    exact h G l hp hB hR
theorem gc_X2_begint_0 {d : Nat} {c k : Nat} {ρ : Rho} {E : Hp → Prop} {A : Nat → Nat} {σ σ1 : Sg} {r : Option Value} (h : Rv ρ E A mX2_begin (d + 4) c k 2 [.ref (A 8), .ref (ρ.1 2), .int 0, U_] [] σ r σ1) : Rv ρ E A mX2_begin (d + 4) c k 0 [.ref (A 8), .ref (ρ.1 2), U_, U_] [] σ r σ1 := by
  intro G l hp hB hR
  refine R_iconst (v := 0) dX2_begin_0 (by decide) ?_
  refine S_istore_n (ls1 := [.ref (A 8), .ref (ρ.1 2), .int 0, U_]) dX2_begin_1 (by decide) rfl rfl ?_
  exact h G l hp hB hR
theorem gc_X2_begint_2 {d : Nat} {v2 : Int32} {c k : Nat} {ρ : Rho} {E : Hp → Prop} {A : Nat → Nat} {σ σ1 : Sg} {r : Option Value} (h : ((6 ≤ v2) → Rv ρ E A mX2_begin (d + 4) c k 58 [.ref (A 8), .ref (ρ.1 2), .int 0, U_] [] σ r σ1) ∧ ((¬ 6 ≤ v2) → (((nI (ρ.1 0)) ≤ v2) → vp_in v2 6 ∧ (Rv ρ E A mX2_begin (d + 4) c k 2 [.ref (A 8), .ref (ρ.1 2), .int (v2 + 1), U_] [] (upA (upA σ.1 9 (upd (σ.1 9) v2.toNatClampNeg 0)) 10 (upd (σ.1 10) v2.toNatClampNeg (-1)), σ.2) r σ1)) ∧ ((¬ (nI (ρ.1 0)) ≤ v2) → vp_in v2 (ρ.1 0) ∧ (vp_in v2 6 ∧ (Rv ρ E A mX2_begin (d + 4) c k 2 [.ref (A 8), .ref (ρ.1 2), .int (v2 + 1), U_] [] (upA (upA σ.1 9 (upd (σ.1 9) v2.toNatClampNeg (mnI ρ v2.toNatClampNeg 2))) 10 (upd (σ.1 10) v2.toNatClampNeg (-1)), σ.2) r σ1))))) : Rv ρ E A mX2_begin (d + 4) c k 2 [.ref (A 8), .ref (ρ.1 2), .int v2, U_] [] σ r σ1 := by
  intro G l hp hB hR
  refine R_iload_n dX2_begin_2 rfl ?_
  refine R_bipush (v := 6) dX2_begin_3 (by decide) ?_
  refine R_icmp_ge 56 dX2_begin_5 (by decide) (fun c1 => ?_) (fun c1 => ?_)
  · replace h := h.1 c1
    refine R_iconst (v := 0) dX2_begin_56 (by decide) ?_
    refine S_istore_n (ls1 := [.ref (A 8), .ref (ρ.1 2), .int 0, U_]) dX2_begin_57 (by decide) rfl rfl ?_
    exact h G l hp hB hR
  · replace h := h.2 c1
    refine R_aload_n dX2_begin_8 rfl ?_
    refine V_geta (o := 8) (q := 9) hB.1 dX2_begin_9 fm_X2_9_3 ⟨by decide, by decide, rfl, rfl⟩ ?_
    refine R_iload_n dX2_begin_12 rfl ?_
    refine R_iload_n dX2_begin_13 rfl ?_
    refine R_aload_n dX2_begin_14 rfl ?_
    refine V_rget (v := .ref (ρ.1 3)) hB dX2_begin_15 fm_X2_46_2 rfl ?_
    refine V_size (w := 0) hB (by decide) dX2_begin_18 cv_X2_52 (Nat.le_of_ble_eq_true rfl) ?_
    refine R_icmp_ge 41 dX2_begin_21 (by decide) (fun c2 => ?_) (fun c2 => ?_)
    · replace h := h.1 c2
      refine R_iconst (v := 0) dX2_begin_41 (by decide) ?_
      have b3 := h.1
      replace h := h.2
      refine V_iast (o := 9) (σ9 := (upA σ.1 9 (upd (σ.1 9) v2.toNatClampNeg 0), σ.2)) hB.1 dX2_begin_42 ⟨by decide, rfl⟩ b3 rfl ?_
      refine R_aload_n dX2_begin_43 rfl ?_
      refine V_geta (o := 8) (q := 10) hB.1 dX2_begin_44 fm_X2_15_3 ⟨by decide, by decide, rfl, rfl⟩ ?_
      refine R_iload_n dX2_begin_47 rfl ?_
      refine R_iconst (v := (-1)) dX2_begin_48 (by decide) ?_
      refine V_iast (o := 10) (σ9 := (upA (upA σ.1 9 (upd (σ.1 9) v2.toNatClampNeg 0)) 10 (upd (σ.1 10) v2.toNatClampNeg (-1)), σ.2)) hB.1 dX2_begin_49 ⟨by decide, rfl⟩ b3 rfl ?_
      refine S_iinc (v := v2 + 1) (ls1 := [.ref (A 8), .ref (ρ.1 2), .int (v2 + 1), U_]) dX2_begin_50 rfl rfl (by decide) rfl rfl ?_
      refine R_goto 2 dX2_begin_53 (by decide) ?_
      exact h G l hp hB hR
    · replace h := h.2 c2
      refine R_aload_n dX2_begin_24 rfl ?_
      refine V_rget (v := .ref (ρ.1 3)) hB dX2_begin_25 fm_X2_46_2 rfl ?_
      refine R_iload_n dX2_begin_28 rfl ?_
      have b4 := h.1
      replace h := h.2
      refine V_lget (w := 0) (i := v2) hB (by decide) b4 dX2_begin_29 cv_X2_58 (Nat.le_of_ble_eq_true rfl) ?_
      refine V_mcast (i := v2) hB b4 dX2_begin_32 q445 ?_
      refine V_mget (i := v2) (x := mnI ρ v2.toNatClampNeg 2) hB b4 dX2_begin_35 fm_X2_64_9 (by decide) rfl ?_
      refine R_goto 42 dX2_begin_38 (by decide) ?_
      have b5 := h.1
      replace h := h.2
      refine V_iast (o := 9) (σ9 := (upA σ.1 9 (upd (σ.1 9) v2.toNatClampNeg (mnI ρ v2.toNatClampNeg 2)), σ.2)) hB.1 dX2_begin_42 ⟨by decide, rfl⟩ b5 rfl ?_
      refine R_aload_n dX2_begin_43 rfl ?_
      refine V_geta (o := 8) (q := 10) hB.1 dX2_begin_44 fm_X2_15_3 ⟨by decide, by decide, rfl, rfl⟩ ?_
      refine R_iload_n dX2_begin_47 rfl ?_
      refine R_iconst (v := (-1)) dX2_begin_48 (by decide) ?_
      refine V_iast (o := 10) (σ9 := (upA (upA σ.1 9 (upd (σ.1 9) v2.toNatClampNeg (mnI ρ v2.toNatClampNeg 2))) 10 (upd (σ.1 10) v2.toNatClampNeg (-1)), σ.2)) hB.1 dX2_begin_49 ⟨by decide, rfl⟩ b5 rfl ?_
      refine S_iinc (v := v2 + 1) (ls1 := [.ref (A 8), .ref (ρ.1 2), .int (v2 + 1), U_]) dX2_begin_50 rfl rfl (by decide) rfl rfl ?_
      refine R_goto 2 dX2_begin_53 (by decide) ?_
      exact h G l hp hB hR
theorem gc_X2_begint_58 {d : Nat} {v2 : Int32} {c k : Nat} {ρ : Rho} {E : Hp → Prop} {A : Nat → Nat} {σ σ1 : Sg} {r : Option Value} (h : ((6 ≤ v2) → r = none ∧ σ1 = (upA σ.1 8 (upd (upd (upd (σ.1 8) 6 0) 7 0) 8 (rgI ρ 13)), σ.2)) ∧ ((¬ 6 ≤ v2) → Rv ρ E A mX2_begin (d + 4) c k 80 [.ref (A 8), .ref (ρ.1 2), .int v2, U_] [.int (if (nI (ρ.1 1)) ≤ v2 then 0 else 1)] σ r σ1)) : Rv ρ E A mX2_begin (d + 4) c k 58 [.ref (A 8), .ref (ρ.1 2), .int v2, U_] [] σ r σ1 := by
  intro G l hp hB hR
  refine R_iload_n dX2_begin_58 rfl ?_
  refine R_bipush (v := 6) dX2_begin_59 (by decide) ?_
  refine R_icmp_ge 199 dX2_begin_61 (by decide) (fun c1 => ?_) (fun c1 => ?_)
  · replace h := h.1 c1
    refine R_aload_n dX2_begin_199 rfl ?_
    refine R_iconst (v := 0) dX2_begin_200 (by decide) ?_
    refine V_put (o := 8) (σ9 := (upA σ.1 8 (upd (σ.1 8) 6 0), σ.2)) hB.1 dX2_begin_201 fm_X2_36_3 ft_3_6 rfl rfl ⟨by decide, by decide, rfl, rfl⟩ rfl ?_
    refine R_aload_n dX2_begin_204 rfl ?_
    refine R_iconst (v := 0) dX2_begin_205 (by decide) ?_
    refine V_put (o := 8) (σ9 := (upA σ.1 8 (upd (upd (σ.1 8) 6 0) 7 0), σ.2)) hB.1 dX2_begin_206 fm_X2_40_3 ft_3_7 rfl rfl ⟨by decide, by decide, rfl, rfl⟩ (up8c σ.1 8 (upd (σ.1 8) 6 0) (upd (upd (σ.1 8) 6 0) 7 0) σ.2) ?_
    refine R_aload_n dX2_begin_209 rfl ?_
    refine R_aload_n dX2_begin_210 rfl ?_
    refine V_rget (v := .int (rgI ρ 13)) hB dX2_begin_211 fm_X2_78_2 rfl ?_
    refine V_put (o := 8) (σ9 := (upA σ.1 8 (upd (upd (upd (σ.1 8) 6 0) 7 0) 8 (rgI ρ 13)), σ.2)) hB.1 dX2_begin_214 fm_X2_43_3 ft_3_8 rfl rfl ⟨by decide, by decide, rfl, rfl⟩ (up8c σ.1 8 (upd (upd (σ.1 8) 6 0) 7 0) (upd (upd (upd (σ.1 8) 6 0) 7 0) 8 (rgI ρ 13)) σ.2) ?_
    exact R_vret dX2_begin_217 rfl ⟨h.1.symm, hp, hB, by rw [h.2]⟩
  · replace h := h.2 c1
    refine R_iload_n dX2_begin_64 rfl ?_
    refine R_aload_n dX2_begin_65 rfl ?_
    refine V_rget (v := .ref (ρ.1 5)) hB dX2_begin_66 fm_X2_66_2 rfl ?_
    refine V_size (w := 1) hB (by decide) dX2_begin_69 cv_X2_52 (Nat.le_of_ble_eq_true rfl) ?_
    have J2 : RnH [] G l mX2_begin (d + 4) (PV ρ E A r σ1) noX 80 [.ref (A 8), .ref (ρ.1 2), .int v2, U_] [.int (if (nI (ρ.1 1)) ≤ v2 then 0 else 1)] (ov rgM A σ hp) c k := by
      exact h G l hp hB hR
    refine R_icmp_ge 79 dX2_begin_72 (by decide) (fun c3 => ?_) (fun c3 => ?_)
    · refine R_iconst (v := 0) dX2_begin_79 (by decide) ?_
      simp only [if_pos c3] at J2
      first | exact J2 | (simp only [if_pos c3]; exact J2)
    · refine R_iconst (v := 1) dX2_begin_75 (by decide) ?_
      refine R_goto 80 dX2_begin_76 (by decide) ?_
      simp only [if_neg c3] at J2
      first | exact J2 | (simp only [if_neg c3]; exact J2)
theorem gc_X2_begint_80_1 {d : Nat} {v2 : Int32} {t0 : Int32} {c k : Nat} {ρ : Rho} {E : Hp → Prop} {A : Nat → Nat} {σ σ1 : Sg} {r : Option Value} (h : ((t0 = 0) → Rv ρ E A mX2_begin (d + 4) c k 108 [.ref (A 8), .ref (ρ.1 2), .int v2, .int t0] [.int 0, .int v2, .ref (A 11)] σ r σ1) ∧ ((¬ t0 = 0) → vp_in v2 (ρ.1 1) ∧ (Rv ρ E A mX2_begin (d + 4) c k 108 [.ref (A 8), .ref (ρ.1 2), .int v2, .int t0] [.int (ctI ρ v2.toNatClampNeg 1), .int v2, .ref (A 11)] σ r σ1))) : Rv ρ E A mX2_begin (d + 4) c k 80 [.ref (A 8), .ref (ρ.1 2), .int v2, U_] [.int t0] σ r σ1 := by
  intro G l hp hB hR
  refine S_istore_n (ls1 := [.ref (A 8), .ref (ρ.1 2), .int v2, .int t0]) dX2_begin_80 (by decide) rfl rfl ?_
  refine R_aload_n dX2_begin_81 rfl ?_
  refine V_geta (o := 8) (q := 11) hB.1 dX2_begin_82 fm_X2_18_3 ⟨by decide, by decide, rfl, rfl⟩ ?_
  refine R_iload_n dX2_begin_85 rfl ?_
  refine R_iload_n dX2_begin_86 rfl ?_
  refine R_if_eq 107 dX2_begin_87 (by decide) (fun c1 => ?_) (fun c1 => ?_)
  · replace h := h.1 c1
    refine R_iconst (v := 0) dX2_begin_107 (by decide) ?_
    exact h G l hp hB hR
  · replace h := h.2 c1
    refine R_aload_n dX2_begin_90 rfl ?_
    refine V_rget (v := .ref (ρ.1 5)) hB dX2_begin_91 fm_X2_66_2 rfl ?_
    refine R_iload_n dX2_begin_94 rfl ?_
    have b2 := h.1
    replace h := h.2
    refine V_lget (w := 1) (i := v2) hB (by decide) b2 dX2_begin_95 cv_X2_58 (Nat.le_of_ble_eq_true rfl) ?_
    refine V_ccast (i := v2) hB b2 dX2_begin_98 q446 ?_
    refine V_cget (i := v2) (x := ctI ρ v2.toNatClampNeg 1) hB b2 dX2_begin_101 fm_X2_71_10 (by decide) rfl ?_
    refine R_goto 108 dX2_begin_104 (by decide) ?_
    exact h G l hp hB hR
theorem gc_X2_begint_108_3 {d : Nat} {v2 : Int32} {v3 : Int32} {t1 : Int32} {t2 : Int32} {c k : Nat} {ρ : Rho} {E : Hp → Prop} {A : Nat → Nat} {σ σ1 : Sg} {r : Option Value} (h : vp_in t1 6 ∧ (((v3 = 0) → Rv ρ E A mX2_begin (d + 4) c k 136 [.ref (A 8), .ref (ρ.1 2), .int v2, .int v3] [.int 0, .int v2, .ref (A 12)] (upA σ.1 11 (upd (σ.1 11) t1.toNatClampNeg t2), σ.2) r σ1) ∧ ((¬ v3 = 0) → vp_in v2 (ρ.1 1) ∧ (Rv ρ E A mX2_begin (d + 4) c k 136 [.ref (A 8), .ref (ρ.1 2), .int v2, .int v3] [.int (ctI ρ v2.toNatClampNeg 2), .int v2, .ref (A 12)] (upA σ.1 11 (upd (σ.1 11) t1.toNatClampNeg t2), σ.2) r σ1)))) : Rv ρ E A mX2_begin (d + 4) c k 108 [.ref (A 8), .ref (ρ.1 2), .int v2, .int v3] [.int t2, .int t1, .ref (A 11)] σ r σ1 := by
  intro G l hp hB hR
  have b1 := h.1
  replace h := h.2
  refine V_iast (o := 11) (σ9 := (upA σ.1 11 (upd (σ.1 11) t1.toNatClampNeg t2), σ.2)) hB.1 dX2_begin_108 ⟨by decide, rfl⟩ b1 rfl ?_
  refine R_aload_n dX2_begin_109 rfl ?_
  refine V_geta (o := 8) (q := 12) hB.1 dX2_begin_110 fm_X2_21_3 ⟨by decide, by decide, rfl, rfl⟩ ?_
  refine R_iload_n dX2_begin_113 rfl ?_
  refine R_iload_n dX2_begin_114 rfl ?_
  refine R_if_eq 135 dX2_begin_115 (by decide) (fun c2 => ?_) (fun c2 => ?_)
  · replace h := h.1 c2
    refine R_iconst (v := 0) dX2_begin_135 (by decide) ?_
    exact h G l hp hB hR
  · replace h := h.2 c2
    refine R_aload_n dX2_begin_118 rfl ?_
    refine V_rget (v := .ref (ρ.1 5)) hB dX2_begin_119 fm_X2_66_2 rfl ?_
    refine R_iload_n dX2_begin_122 rfl ?_
    have b3 := h.1
    replace h := h.2
    refine V_lget (w := 1) (i := v2) hB (by decide) b3 dX2_begin_123 cv_X2_58 (Nat.le_of_ble_eq_true rfl) ?_
    refine V_ccast (i := v2) hB b3 dX2_begin_126 q446 ?_
    refine V_cget (i := v2) (x := ctI ρ v2.toNatClampNeg 2) hB b3 dX2_begin_129 fm_X2_73_10 (by decide) rfl ?_
    refine R_goto 136 dX2_begin_132 (by decide) ?_
    exact h G l hp hB hR
theorem gc_X2_begint_136_3 {d : Nat} {v2 : Int32} {v3 : Int32} {t1 : Int32} {t2 : Int32} {c k : Nat} {ρ : Rho} {E : Hp → Prop} {A : Nat → Nat} {σ σ1 : Sg} {r : Option Value} (h : vp_in t1 6 ∧ (((v3 = 0) → Rv ρ E A mX2_begin (d + 4) c k 164 [.ref (A 8), .ref (ρ.1 2), .int v2, .int v3] [.int 0, .int v2, .ref (A 13)] (upA σ.1 12 (upd (σ.1 12) t1.toNatClampNeg t2), σ.2) r σ1) ∧ ((¬ v3 = 0) → vp_in v2 (ρ.1 1) ∧ (Rv ρ E A mX2_begin (d + 4) c k 164 [.ref (A 8), .ref (ρ.1 2), .int v2, .int v3] [.int (ctI ρ v2.toNatClampNeg 3), .int v2, .ref (A 13)] (upA σ.1 12 (upd (σ.1 12) t1.toNatClampNeg t2), σ.2) r σ1)))) : Rv ρ E A mX2_begin (d + 4) c k 136 [.ref (A 8), .ref (ρ.1 2), .int v2, .int v3] [.int t2, .int t1, .ref (A 12)] σ r σ1 := by
  intro G l hp hB hR
  have b1 := h.1
  replace h := h.2
  refine V_iast (o := 12) (σ9 := (upA σ.1 12 (upd (σ.1 12) t1.toNatClampNeg t2), σ.2)) hB.1 dX2_begin_136 ⟨by decide, rfl⟩ b1 rfl ?_
  refine R_aload_n dX2_begin_137 rfl ?_
  refine V_geta (o := 8) (q := 13) hB.1 dX2_begin_138 fm_X2_24_3 ⟨by decide, by decide, rfl, rfl⟩ ?_
  refine R_iload_n dX2_begin_141 rfl ?_
  refine R_iload_n dX2_begin_142 rfl ?_
  refine R_if_eq 163 dX2_begin_143 (by decide) (fun c2 => ?_) (fun c2 => ?_)
  · replace h := h.1 c2
    refine R_iconst (v := 0) dX2_begin_163 (by decide) ?_
    exact h G l hp hB hR
  · replace h := h.2 c2
    refine R_aload_n dX2_begin_146 rfl ?_
    refine V_rget (v := .ref (ρ.1 5)) hB dX2_begin_147 fm_X2_66_2 rfl ?_
    refine R_iload_n dX2_begin_150 rfl ?_
    have b3 := h.1
    replace h := h.2
    refine V_lget (w := 1) (i := v2) hB (by decide) b3 dX2_begin_151 cv_X2_58 (Nat.le_of_ble_eq_true rfl) ?_
    refine V_ccast (i := v2) hB b3 dX2_begin_154 q446 ?_
    refine V_cget (i := v2) (x := ctI ρ v2.toNatClampNeg 3) hB b3 dX2_begin_157 fm_X2_74_10 (by decide) rfl ?_
    refine R_goto 164 dX2_begin_160 (by decide) ?_
    exact h G l hp hB hR
theorem gc_X2_begint_164_3 {d : Nat} {v2 : Int32} {v3 : Int32} {t1 : Int32} {t2 : Int32} {c k : Nat} {ρ : Rho} {E : Hp → Prop} {A : Nat → Nat} {σ σ1 : Sg} {r : Option Value} (h : vp_in t1 6 ∧ (((v3 = 0) → vp_in v2 6 ∧ (Rv ρ E A mX2_begin (d + 4) c k 58 [.ref (A 8), .ref (ρ.1 2), .int (v2 + 1), U_] [] (upA (upA σ.1 13 (upd (σ.1 13) t1.toNatClampNeg t2)) 14 (upd (σ.1 14) v2.toNatClampNeg 0), σ.2) r σ1)) ∧ ((¬ v3 = 0) → vp_in v2 (ρ.1 1) ∧ (vp_in v2 6 ∧ (Rv ρ E A mX2_begin (d + 4) c k 58 [.ref (A 8), .ref (ρ.1 2), .int (v2 + 1), U_] [] (upA (upA σ.1 13 (upd (σ.1 13) t1.toNatClampNeg t2)) 14 (upd (σ.1 14) v2.toNatClampNeg (ctI ρ v2.toNatClampNeg 4)), σ.2) r σ1))))) : Rv ρ E A mX2_begin (d + 4) c k 164 [.ref (A 8), .ref (ρ.1 2), .int v2, .int v3] [.int t2, .int t1, .ref (A 13)] σ r σ1 := by
  intro G l hp hB hR
  have b1 := h.1
  replace h := h.2
  refine V_iast (o := 13) (σ9 := (upA σ.1 13 (upd (σ.1 13) t1.toNatClampNeg t2), σ.2)) hB.1 dX2_begin_164 ⟨by decide, rfl⟩ b1 rfl ?_
  refine R_aload_n dX2_begin_165 rfl ?_
  refine V_geta (o := 8) (q := 14) hB.1 dX2_begin_166 fm_X2_27_3 ⟨by decide, by decide, rfl, rfl⟩ ?_
  refine R_iload_n dX2_begin_169 rfl ?_
  refine R_iload_n dX2_begin_170 rfl ?_
  refine R_if_eq 191 dX2_begin_171 (by decide) (fun c2 => ?_) (fun c2 => ?_)
  · replace h := h.1 c2
    refine R_iconst (v := 0) dX2_begin_191 (by decide) ?_
    have b3 := h.1
    replace h := h.2
    refine V_iast (o := 14) (σ9 := (upA (upA σ.1 13 (upd (σ.1 13) t1.toNatClampNeg t2)) 14 (upd (σ.1 14) v2.toNatClampNeg 0), σ.2)) hB.1 dX2_begin_192 ⟨by decide, rfl⟩ b3 rfl ?_
    refine S_iinc (v := v2 + 1) (ls1 := [.ref (A 8), .ref (ρ.1 2), .int (v2 + 1), .int v3]) dX2_begin_193 rfl rfl (by decide) rfl rfl ?_
    refine R_goto 58 dX2_begin_196 (by decide) ?_
    refine R_drop 3 ?_
    exact h G l hp hB hR
  · replace h := h.2 c2
    refine R_aload_n dX2_begin_174 rfl ?_
    refine V_rget (v := .ref (ρ.1 5)) hB dX2_begin_175 fm_X2_66_2 rfl ?_
    refine R_iload_n dX2_begin_178 rfl ?_
    have b4 := h.1
    replace h := h.2
    refine V_lget (w := 1) (i := v2) hB (by decide) b4 dX2_begin_179 cv_X2_58 (Nat.le_of_ble_eq_true rfl) ?_
    refine V_ccast (i := v2) hB b4 dX2_begin_182 q446 ?_
    refine V_cget (i := v2) (x := ctI ρ v2.toNatClampNeg 4) hB b4 dX2_begin_185 fm_X2_76_10 (by decide) rfl ?_
    refine R_goto 192 dX2_begin_188 (by decide) ?_
    have b5 := h.1
    replace h := h.2
    refine V_iast (o := 14) (σ9 := (upA (upA σ.1 13 (upd (σ.1 13) t1.toNatClampNeg t2)) 14 (upd (σ.1 14) v2.toNatClampNeg (ctI ρ v2.toNatClampNeg 4)), σ.2)) hB.1 dX2_begin_192 ⟨by decide, rfl⟩ b5 rfl ?_
    refine S_iinc (v := v2 + 1) (ls1 := [.ref (A 8), .ref (ρ.1 2), .int (v2 + 1), .int v3]) dX2_begin_193 rfl rfl (by decide) rfl rfl ?_
    refine R_goto 58 dX2_begin_196 (by decide) ?_
    refine R_drop 3 ?_
    exact h G l hp hB hR
theorem gc_X5_does_0 {d : Nat} {v1 : Int32} {c k : Nat} {ρ : Rho} {E : Hp → Prop} {A : Nat → Nat} {σ σ1 : Sg} {r : Option Value} (h : ∃ (r3 : Int32) (σ_1 : Sg), Tv ρ E A mX0_breadthOf (d + 3) 0 0 [.ref (A 0), .int v1] σ (some (.int r3)) σ_1 ∧ (r = some (.int (if r3 < (σ_1.1 21 2) then 0 else 1)) ∧ σ1 = σ_1)) : Rv ρ E A mX5_does (d + 4) c k 0 [.ref (A 21), .int v1] [] σ r σ1 := by
  intro G l hp hB hR
  refine R_aload_n dX5_does_0 rfl ?_
  refine V_geta (o := 21) (q := 0) hB.1 dX5_does_1 fm_X5_1_5 ⟨by decide, by decide, rfl, rfl⟩ ?_
  refine R_iload_n dX5_does_4 rfl ?_
  obtain ⟨r3, σ_1, e2, h⟩ := h
  refine V_callN (o := 0) [.int v1] hB hR dX5_does_5 cv_X5_13 rfl rfl (Nat.le_of_ble_eq_true rfl) ⟨by decide, rfl⟩ rfl e2 (Nat.zero_le _) (Nat.zero_le _) (fun hp hB => ?_)
  show RnH [] G l mX5_does (d + 4) (PV ρ E A r σ1) noX 8 [.ref (A 21), .int v1] [.int r3] (ov rgM A σ_1 hp) c k
  have hR : σ_1.2.2 0 0 = .ref (ρ.1 2) := by rw [e2.1]; exact hR
  refine R_aload_n dX5_does_8 rfl ?_
  refine V_get (o := 21) (x := σ_1.1 21 2) hB.1 dX5_does_9 fm_X5_19_5 ⟨by decide, by decide, rfl, rfl⟩ rfl ?_
  have J4 : RnH [] G l mX5_does (d + 4) (PV ρ E A r σ1) noX 20 [.ref (A 21), .int v1] [.int (if r3 < (σ_1.1 21 2) then 0 else 1)] (ov rgM A σ_1 hp) c k := by
    exact R_iret dX5_does_20 rfl (by show isB _; repeat (first | exact isB_0 | exact isB_1 | refine isB_if ?_ ?_)) ⟨h.1.symm, hp, hB, by rw [h.2]⟩
  refine R_icmp_lt 19 dX5_does_12 (by decide) (fun c5 => ?_) (fun c5 => ?_)
  · refine R_iconst (v := 0) dX5_does_19 (by decide) ?_
    simp only [if_pos c5] at J4
    first | exact J4 | (simp only [if_pos c5]; exact J4)
  · refine R_iconst (v := 1) dX5_does_15 (by decide) ?_
    refine R_goto 20 dX5_does_16 (by decide) ?_
    simp only [if_neg c5] at J4
    first | exact J4 | (simp only [if_neg c5]; exact J4)
theorem gc_X6_cost_0 {d : Nat} {v1 : Int32} {c k : Nat} {ρ : Rho} {E : Hp → Prop} {A : Nat → Nat} {σ σ1 : Sg} {r : Option Value} (h : ∃ (r3 : Int32) (σ_1 : Sg), Tv ρ E A mX2_dressed (d + 3) 0 0 [.ref (A 1)] σ (some (.int r3)) σ_1 ∧ (∃ (r6 : Int32) (σ_4 : Sg), Tv ρ E A mX0_breadthOf (d + 3) 0 0 [.ref (A 0), .int r3] σ_1 (some (.int r6)) σ_4 ∧ (∃ (r9 : Int32) (σ_7 : Sg), Tv ρ E A mX0_breadthOf (d + 3) 0 0 [.ref (A 0), .int v1] σ_4 (some (.int r9)) σ_7 ∧ (r = some (.int (sj_abs (r6 - (2 * r9)))) ∧ σ1 = σ_7)))) : Rv ρ E A mX6_cost (d + 4) c k 0 [.ref (A 22), .int v1] [] σ r σ1 := by
  intro G l hp hB hR
  refine R_aload_n dX6_cost_0 rfl ?_
  refine V_geta (o := 22) (q := 0) hB.1 dX6_cost_1 fm_X6_1_6 ⟨by decide, by decide, rfl, rfl⟩ ?_
  refine R_aload_n dX6_cost_4 rfl ?_
  refine V_geta (o := 22) (q := 0) hB.1 dX6_cost_5 fm_X6_1_6 ⟨by decide, by decide, rfl, rfl⟩ ?_
  refine V_geta (o := 0) (q := 1) hB.1 dX6_cost_8 fm_X6_13_1 ⟨by decide, by decide, rfl, rfl⟩ ?_
  obtain ⟨r3, σ_1, e2, h⟩ := h
  refine V_call (o := 1) [] hB hR dX6_cost_11 cv_X6_19 rfl rfl (Nat.le_of_ble_eq_true rfl) ⟨by decide, rfl⟩ rfl e2 (Nat.zero_le _) (Nat.zero_le _) (fun hp hB => ?_)
  show RnH [] G l mX6_cost (d + 4) (PV ρ E A r σ1) noX 14 [.ref (A 22), .int v1] [.int r3, .ref (A 0)] (ov rgM A σ_1 hp) c k
  have hR : σ_1.2.2 0 0 = .ref (ρ.1 2) := by rw [e2.1]; exact hR
  obtain ⟨r6, σ_4, e5, h⟩ := h
  refine V_callN (o := 0) [.int r3] hB hR dX6_cost_14 cv_X6_31 rfl rfl (Nat.le_of_ble_eq_true rfl) ⟨by decide, rfl⟩ rfl e5 (Nat.zero_le _) (Nat.zero_le _) (fun hp hB => ?_)
  show RnH [] G l mX6_cost (d + 4) (PV ρ E A r σ1) noX 17 [.ref (A 22), .int v1] [.int r6] (ov rgM A σ_4 hp) c k
  have hR : σ_4.2.2 0 0 = .ref (ρ.1 2) := by rw [e5.1]; exact hR
  refine R_iconst (v := 2) dX6_cost_17 (by decide) ?_
  refine R_aload_n dX6_cost_18 rfl ?_
  refine V_geta (o := 22) (q := 0) hB.1 dX6_cost_19 fm_X6_1_6 ⟨by decide, by decide, rfl, rfl⟩ ?_
  refine R_iload_n dX6_cost_22 rfl ?_
  obtain ⟨r9, σ_7, e8, h⟩ := h
  refine V_callN (o := 0) [.int v1] hB hR dX6_cost_23 cv_X6_31 rfl rfl (Nat.le_of_ble_eq_true rfl) ⟨by decide, rfl⟩ rfl e8 (Nat.zero_le _) (Nat.zero_le _) (fun hp hB => ?_)
  show RnH [] G l mX6_cost (d + 4) (PV ρ E A r σ1) noX 26 [.ref (A 22), .int v1] [.int r9, .int 2, .int r6] (ov rgM A σ_7 hp) c k
  have hR : σ_7.2.2 0 0 = .ref (ρ.1 2) := by rw [e8.1]; exact hR
  refine R_imul dX6_cost_26 ?_
  refine R_isub dX6_cost_27 ?_
  refine R_mabs dX6_cost_28 q1259 (Nat.le_of_ble_eq_true rfl) ?_
  exact R_iret dX6_cost_31 rfl rfl ⟨h.1.symm, hp, hB, by rw [h.2]⟩
theorem gc_X0_goColour_0 {d : Nat} {v1 : Int32} {v2 : Int32} {c k : Nat} {ρ : Rho} {E : Hp → Prop} {A : Nat → Nat} {σ σ1 : Sg} {r : Option Value} (h : ∃ (r3 : Int32) (σ_1 : Sg), Tv ρ E A mX0_men (d + 4) 0 0 [.ref (A 0)] σ (some (.int r3)) σ_1 ∧ (((¬ v1 = r3) → Rv ρ E A mX0_goColour (d + 5) c k 12 [.ref (A 0), .int v1, .int v2, .int 0, U_, U_] [] σ_1 r σ1) ∧ ((v1 = r3) → r = some (.int 1) ∧ σ1 = σ_1))) : Rv ρ E A mX0_goColour (d + 5) c k 0 [.ref (A 0), .int v1, .int v2, U_, U_, U_] [] σ r σ1 := by
  intro G l hp hB hR
  refine R_iload_n dX0_goColour_0 rfl ?_
  refine R_aload_n dX0_goColour_1 rfl ?_
  obtain ⟨r3, σ_1, e2, h⟩ := h
  refine V_call (o := 0) [] hB hR dX0_goColour_2 cv_X0_143 rfl rfl (Nat.le_of_ble_eq_true rfl) ⟨by decide, rfl⟩ rfl e2 (Nat.zero_le _) (Nat.zero_le _) (fun hp hB => ?_)
  show RnH [] G l mX0_goColour (d + 5) (PV ρ E A r σ1) noX 5 [.ref (A 0), .int v1, .int v2, U_, U_, U_] [.int r3, .int v1] (ov rgM A σ_1 hp) c k
  have hR : σ_1.2.2 0 0 = .ref (ρ.1 2) := by rw [e2.1]; exact hR
  refine R_icmp_ne 10 dX0_goColour_5 (by decide) (fun c4 => ?_) (fun c4 => ?_)
  · replace h := h.1 c4
    refine R_iconst (v := 0) dX0_goColour_10 (by decide) ?_
    refine S_istore_n (ls1 := [.ref (A 0), .int v1, .int v2, .int 0, U_, U_]) dX0_goColour_11 (by decide) rfl rfl ?_
    exact h G l hp hB hR
  · replace h := h.2 c4
    refine R_iconst (v := 1) dX0_goColour_8 (by decide) ?_
    exact R_iret dX0_goColour_9 rfl rfl ⟨h.1.symm, hp, hB, by rw [h.2]⟩
theorem gc_X0_goColour_12 {d : Nat} {v1 : Int32} {v2 : Int32} {v3 : Int32} {c k : Nat} {ρ : Rho} {E : Hp → Prop} {A : Nat → Nat} {σ σ1 : Sg} {r : Option Value} (h : ((v2 ≤ v3) → r = some (.int 0) ∧ σ1 = σ) ∧ ((¬ v2 ≤ v3) → Rv ρ E A mX0_goColour (d + 5) c k 23 [.ref (A 0), .int v1, .int v2, .int v3, .int 1, .int 0] [] σ r σ1)) : Rv ρ E A mX0_goColour (d + 5) c k 12 [.ref (A 0), .int v1, .int v2, .int v3, U_, U_] [] σ r σ1 := by
  intro G l hp hB hR
  refine R_iload_n dX0_goColour_12 rfl ?_
  refine R_iload_n dX0_goColour_13 rfl ?_
  refine R_icmp_ge 97 dX0_goColour_14 (by decide) (fun c1 => ?_) (fun c1 => ?_)
  · replace h := h.1 c1
    refine R_iconst (v := 0) dX0_goColour_97 (by decide) ?_
    exact R_iret dX0_goColour_98 rfl rfl ⟨h.1.symm, hp, hB, by rw [h.2]⟩
  · replace h := h.2 c1
    refine R_iconst (v := 1) dX0_goColour_17 (by decide) ?_
    refine S_istore (ls1 := [.ref (A 0), .int v1, .int v2, .int v3, .int 1, U_]) dX0_goColour_18 (by decide) rfl rfl ?_
    refine R_iconst (v := 0) dX0_goColour_20 (by decide) ?_
    refine S_istore (ls1 := [.ref (A 0), .int v1, .int v2, .int v3, .int 1, .int 0]) dX0_goColour_21 (by decide) rfl rfl ?_
    exact h G l hp hB hR
theorem gc_X0_goColour_23 {d : Nat} {v1 : Int32} {v2 : Int32} {v3 : Int32} {v4 : Int32} {v5 : Int32} {c k : Nat} {ρ : Rho} {E : Hp → Prop} {A : Nat → Nat} {σ σ1 : Sg} {r : Option Value} (h : ((v1 ≤ v5) → vp_in v1 6 ∧ (((v4 = 0) → Rv ρ E A mX0_goColour (d + 5) c k 12 [.ref (A 0), .int v1, .int v2, .int (v3 + 1), U_, U_] [] (upA σ.1 19 (upd (σ.1 19) v1.toNatClampNeg v3), σ.2) r σ1) ∧ ((¬ v4 = 0) → ∃ (r6 : Int32) (σ_4 : Sg), Tv ρ E A mX0_goColour (d + 4) 0 0 [.ref (A 0), .int (v1 + 1), .int v2] (upA σ.1 19 (upd (σ.1 19) v1.toNatClampNeg v3), σ.2) (some (.int r6)) σ_4 ∧ (((r6 = 0) → Rv ρ E A mX0_goColour (d + 5) c k 12 [.ref (A 0), .int v1, .int v2, .int (v3 + 1), U_, U_] [] σ_4 r σ1) ∧ ((¬ r6 = 0) → r = some (.int 1) ∧ σ1 = σ_4))))) ∧ ((¬ v1 ≤ v5) → vp_in v5 6 ∧ (((¬ (σ.1 19 v5.toNatClampNeg) = v3) → Rv ρ E A mX0_goColour (d + 5) c k 23 [.ref (A 0), .int v1, .int v2, .int v3, .int (v4 &&& 1), .int (v5 + 1)] [] σ r σ1) ∧ (((σ.1 19 v5.toNatClampNeg) = v3) → ∃ (r12 : Int32) (σ_10 : Sg), Tv ρ E A mX0_areLike (d + 4) 0 0 [.ref (A 0), .int v1, .int v5] σ (some (.int r12)) σ_10 ∧ (Rv ρ E A mX0_goColour (d + 5) c k 23 [.ref (A 0), .int v1, .int v2, .int v3, .int (v4 &&& (if r12 = 0 then 1 else 0)), .int (v5 + 1)] [] σ_10 r σ1))))) : Rv ρ E A mX0_goColour (d + 5) c k 23 [.ref (A 0), .int v1, .int v2, .int v3, .int v4, .int v5] [] σ r σ1 := by
  intro G l hp hB hR
  refine R_iload dX0_goColour_23 rfl ?_
  refine R_iload_n dX0_goColour_25 rfl ?_
  refine R_icmp_ge 66 dX0_goColour_26 (by decide) (fun c1 => ?_) (fun c1 => ?_)
  · replace h := h.1 c1
    refine R_aload_n dX0_goColour_66 rfl ?_
    refine V_geta (o := 0) (q := 19) hB.1 dX0_goColour_67 fm_X0_60_1 ⟨by decide, by decide, rfl, rfl⟩ ?_
    refine R_iload_n dX0_goColour_70 rfl ?_
    refine R_iload_n dX0_goColour_71 rfl ?_
    have b2 := h.1
    replace h := h.2
    refine V_iast (o := 19) (σ9 := (upA σ.1 19 (upd (σ.1 19) v1.toNatClampNeg v3), σ.2)) hB.1 dX0_goColour_72 ⟨by decide, rfl⟩ b2 rfl ?_
    refine R_iload dX0_goColour_73 rfl ?_
    refine R_if_eq 91 dX0_goColour_75 (by decide) (fun c3 => ?_) (fun c3 => ?_)
    · replace h := h.1 c3
      refine S_iinc (v := v3 + 1) (ls1 := [.ref (A 0), .int v1, .int v2, .int (v3 + 1), .int v4, .int v5]) dX0_goColour_91 rfl rfl (by decide) rfl rfl ?_
      refine R_goto 12 dX0_goColour_94 (by decide) ?_
      refine R_drop 4 ?_
      refine R_drop 5 ?_
      exact h G l hp hB hR
    · replace h := h.2 c3
      refine R_aload_n dX0_goColour_78 rfl ?_
      refine R_iload_n dX0_goColour_79 rfl ?_
      refine R_iconst (v := 1) dX0_goColour_80 (by decide) ?_
      refine R_iadd dX0_goColour_81 ?_
      refine R_iload_n dX0_goColour_82 rfl ?_
      obtain ⟨r6, σ_4, e5, h⟩ := h
      refine V_call (o := 0) [.int (v1 + 1), .int v2] hB hR dX0_goColour_83 cv_X0_321 rfl rfl (Nat.le_of_ble_eq_true rfl) ⟨by decide, rfl⟩ rfl e5 (Nat.zero_le _) (Nat.zero_le _) (fun hp hB => ?_)
      show RnH [] G l mX0_goColour (d + 5) (PV ρ E A r σ1) noX 86 [.ref (A 0), .int v1, .int v2, .int v3, .int v4, .int v5] [.int r6] (ov rgM A σ_4 hp) c k
      have hR : σ_4.2.2 0 0 = .ref (ρ.1 2) := by rw [e5.1]; exact hR
      refine R_if_eq 91 dX0_goColour_86 (by decide) (fun c7 => ?_) (fun c7 => ?_)
      · replace h := h.1 c7
        refine S_iinc (v := v3 + 1) (ls1 := [.ref (A 0), .int v1, .int v2, .int (v3 + 1), .int v4, .int v5]) dX0_goColour_91 rfl rfl (by decide) rfl rfl ?_
        refine R_goto 12 dX0_goColour_94 (by decide) ?_
        refine R_drop 4 ?_
        refine R_drop 5 ?_
        exact h G l hp hB hR
      · replace h := h.2 c7
        refine R_iconst (v := 1) dX0_goColour_89 (by decide) ?_
        exact R_iret dX0_goColour_90 rfl rfl ⟨h.1.symm, hp, hB, by rw [h.2]⟩
  · replace h := h.2 c1
    refine R_iload dX0_goColour_29 rfl ?_
    refine R_aload_n dX0_goColour_31 rfl ?_
    refine V_geta (o := 0) (q := 19) hB.1 dX0_goColour_32 fm_X0_60_1 ⟨by decide, by decide, rfl, rfl⟩ ?_
    refine R_iload dX0_goColour_35 rfl ?_
    have b8 := h.1
    replace h := h.2
    refine V_iald (o := 19) (x := σ.1 19 v5.toNatClampNeg) hB.1 dX0_goColour_37 ⟨by decide, rfl⟩ b8 rfl ?_
    refine R_iload_n dX0_goColour_38 rfl ?_
    refine R_icmp_ne 52 dX0_goColour_39 (by decide) (fun c9 => ?_) (fun c9 => ?_)
    · replace h := h.1 c9
      refine R_iconst (v := 1) dX0_goColour_52 (by decide) ?_
      refine R_goto 57 dX0_goColour_53 (by decide) ?_
      refine R_iand dX0_goColour_57 ?_
      refine S_istore (ls1 := [.ref (A 0), .int v1, .int v2, .int v3, .int (v4 &&& 1), .int v5]) dX0_goColour_58 (by decide) rfl rfl ?_
      refine S_iinc (v := v5 + 1) (ls1 := [.ref (A 0), .int v1, .int v2, .int v3, .int (v4 &&& 1), .int (v5 + 1)]) dX0_goColour_60 rfl rfl (by decide) rfl rfl ?_
      refine R_goto 23 dX0_goColour_63 (by decide) ?_
      exact h G l hp hB hR
    · replace h := h.2 c9
      refine R_aload_n dX0_goColour_42 rfl ?_
      refine R_iload_n dX0_goColour_43 rfl ?_
      refine R_iload dX0_goColour_44 rfl ?_
      obtain ⟨r12, σ_10, e11, h⟩ := h
      refine V_call (o := 0) [.int v1, .int v5] hB hR dX0_goColour_46 cv_X0_318 rfl rfl (Nat.le_of_ble_eq_true rfl) ⟨by decide, rfl⟩ rfl e11 (Nat.zero_le _) (Nat.zero_le _) (fun hp hB => ?_)
      show RnH [] G l mX0_goColour (d + 5) (PV ρ E A r σ1) noX 49 [.ref (A 0), .int v1, .int v2, .int v3, .int v4, .int v5] [.int r12, .int v4] (ov rgM A σ_10 hp) c k
      have hR : σ_10.2.2 0 0 = .ref (ρ.1 2) := by rw [e11.1]; exact hR
      have J13 : RnH [] G l mX0_goColour (d + 5) (PV ρ E A r σ1) noX 57 [.ref (A 0), .int v1, .int v2, .int v3, .int v4, .int v5] [.int (if r12 = 0 then 1 else 0), .int v4] (ov rgM A σ_10 hp) c k := by
        refine R_iand dX0_goColour_57 ?_
        refine S_istore (ls1 := [.ref (A 0), .int v1, .int v2, .int v3, .int (v4 &&& (if r12 = 0 then 1 else 0)), .int v5]) dX0_goColour_58 (by decide) rfl rfl ?_
        refine S_iinc (v := v5 + 1) (ls1 := [.ref (A 0), .int v1, .int v2, .int v3, .int (v4 &&& (if r12 = 0 then 1 else 0)), .int (v5 + 1)]) dX0_goColour_60 rfl rfl (by decide) rfl rfl ?_
        refine R_goto 23 dX0_goColour_63 (by decide) ?_
        exact h G l hp hB hR
      refine R_if_ne 56 dX0_goColour_49 (by decide) (fun c14 => ?_) (fun c14 => ?_)
      · refine R_iconst (v := 0) dX0_goColour_56 (by decide) ?_
        simp only [if_neg c14] at J13
        first | exact J13 | (simp only [if_neg c14]; exact J13)
      · refine R_iconst (v := 1) dX0_goColour_52 (by decide) ?_
        refine R_goto 57 dX0_goColour_53 (by decide) ?_
        simp only [if_pos c14] at J13
        first | exact J13 | (simp only [if_pos c14]; exact J13)
theorem gc_X0_mostBy_0 {d : Nat} {v1 : Int32} {v2 : Int32} {c k : Nat} {ρ : Rho} {E : Hp → Prop} {A : Nat → Nat} {σ σ1 : Sg} {r : Option Value} (h : Rv ρ E A mX0_mostBy (d + 5) c k 8 [.ref (A 0), .int v1, .int v2, .int 0, .int 0, .int 0] [] σ r σ1) : Rv ρ E A mX0_mostBy (d + 5) c k 0 [.ref (A 0), .int v1, .int v2, U_, U_, U_] [] σ r σ1 := by
  intro G l hp hB hR
  refine R_iconst (v := 0) dX0_mostBy_0 (by decide) ?_
  refine S_istore_n (ls1 := [.ref (A 0), .int v1, .int v2, .int 0, U_, U_]) dX0_mostBy_1 (by decide) rfl rfl ?_
  refine R_iconst (v := 0) dX0_mostBy_2 (by decide) ?_
  refine S_istore (ls1 := [.ref (A 0), .int v1, .int v2, .int 0, .int 0, U_]) dX0_mostBy_3 (by decide) rfl rfl ?_
  refine R_iconst (v := 0) dX0_mostBy_5 (by decide) ?_
  refine S_istore (ls1 := [.ref (A 0), .int v1, .int v2, .int 0, .int 0, .int 0]) dX0_mostBy_6 (by decide) rfl rfl ?_
  exact h G l hp hB hR
theorem gc_X0_mostBy_8 {d : Nat} {v1 : Int32} {v2 : Int32} {v3 : Int32} {v4 : Int32} {v5 : Int32} {c k : Nat} {ρ : Rho} {E : Hp → Prop} {A : Nat → Nat} {σ σ1 : Sg} {r : Option Value} (h : ((30 < v5) → r = some (.int (sj_max v3 v4)) ∧ σ1 = σ) ∧ ((¬ 30 < v5) → ∃ (n4 n5 : Nat) (r7 : Int32) (σ_2 : Sg), Tv ρ E A mX0_isSo (d + 4) n4 n5 [.ref (A 0), .int v5, .int v2] σ (some (.int r7)) σ_2 ∧ (n4 ≤ c ∧ n5 ≤ k) ∧ (((¬ r7 = 0) → vp_in ((21 * v5) + v1) 651 ∧ ((((σ_2.1 25 ((21 * v5) + v1).toNatClampNeg) = 0) → Rv ρ E A mX0_mostBy (d + 5) (c - n4) (k - n5) 8 [.ref (A 0), .int v1, .int v2, .int v3, .int (v4 + 1), .int (v5 + 1)] [] σ_2 r σ1) ∧ ((¬ (σ_2.1 25 ((21 * v5) + v1).toNatClampNeg) = 0) → Rv ρ E A mX0_mostBy (d + 5) (c - n4) (k - n5) 8 [.ref (A 0), .int v1, .int v2, .int (v3 + 1), .int v4, .int (v5 + 1)] [] σ_2 r σ1))) ∧ ((r7 = 0) → Rv ρ E A mX0_mostBy (d + 5) (c - n4) (k - n5) 8 [.ref (A 0), .int v1, .int v2, .int v3, .int v4, .int (v5 + 1)] [] σ_2 r σ1)))) : Rv ρ E A mX0_mostBy (d + 5) c k 8 [.ref (A 0), .int v1, .int v2, .int v3, .int v4, .int v5] [] σ r σ1 := by
  intro G l hp hB hR
  refine R_iload dX0_mostBy_8 rfl ?_
  refine R_bipush (v := 30) dX0_mostBy_10 (by decide) ?_
  refine R_icmp_gt 58 dX0_mostBy_12 (by decide) (fun c1 => ?_) (fun c1 => ?_)
  · replace h := h.1 c1
    refine R_iload_n dX0_mostBy_58 rfl ?_
    refine R_iload dX0_mostBy_59 rfl ?_
    refine R_mmax dX0_mostBy_61 q1048 (Nat.le_of_ble_eq_true rfl) ?_
    exact R_iret dX0_mostBy_64 rfl rfl ⟨h.1.symm, hp, hB, by rw [h.2]⟩
  · replace h := h.2 c1
    refine R_aload_n dX0_mostBy_15 rfl ?_
    refine R_iload dX0_mostBy_16 rfl ?_
    refine R_iload_n dX0_mostBy_18 rfl ?_
    obtain ⟨n4, n5, r7, σ_2, e3, h⟩ := h
    have b6 := h.1
    replace h := h.2
    refine V_call (o := 0) [.int v5, .int v2] hB hR dX0_mostBy_19 cv_X0_378 rfl rfl (Nat.le_of_ble_eq_true rfl) ⟨by decide, rfl⟩ rfl e3 b6.1 b6.2 (fun hp hB => ?_)
    show RnH [] G l mX0_mostBy (d + 5) (PV ρ E A r σ1) noX 22 [.ref (A 0), .int v1, .int v2, .int v3, .int v4, .int v5] [.int r7] (ov rgM A σ_2 hp) (c - n4) (k - n5)
    have hR : σ_2.2.2 0 0 = .ref (ρ.1 2) := by rw [e3.1]; exact hR
    refine R_if_ne 28 dX0_mostBy_22 (by decide) (fun c8 => ?_) (fun c8 => ?_)
    · replace h := h.1 c8
      refine R_aload_n dX0_mostBy_28 rfl ?_
      refine V_geta (o := 0) (q := 25) hB.1 dX0_mostBy_29 fm_X0_89_1 ⟨by decide, by decide, rfl, rfl⟩ ?_
      refine R_bipush (v := 21) dX0_mostBy_32 (by decide) ?_
      refine R_iload dX0_mostBy_34 rfl ?_
      refine R_imul dX0_mostBy_36 ?_
      refine R_iload_n dX0_mostBy_37 rfl ?_
      refine R_iadd dX0_mostBy_38 ?_
      have b9 := h.1
      replace h := h.2
      refine V_zald (o := 25) (x := σ_2.1 25 ((21 * v5) + v1).toNatClampNeg) hB.1 dX0_mostBy_39 ⟨by decide, rfl⟩ b9 rfl ?_
      refine R_if_eq 49 dX0_mostBy_40 (by decide) (fun c10 => ?_) (fun c10 => ?_)
      · replace h := h.1 c10
        refine S_iinc (v := v4 + 1) (ls1 := [.ref (A 0), .int v1, .int v2, .int v3, .int (v4 + 1), .int v5]) dX0_mostBy_49 rfl rfl (by decide) rfl rfl ?_
        refine S_iinc (v := v5 + 1) (ls1 := [.ref (A 0), .int v1, .int v2, .int v3, .int (v4 + 1), .int (v5 + 1)]) dX0_mostBy_52 rfl rfl (by decide) rfl rfl ?_
        refine R_goto 8 dX0_mostBy_55 (by decide) ?_
        exact h G l hp hB hR
      · replace h := h.2 c10
        refine S_iinc (v := v3 + 1) (ls1 := [.ref (A 0), .int v1, .int v2, .int (v3 + 1), .int v4, .int v5]) dX0_mostBy_43 rfl rfl (by decide) rfl rfl ?_
        refine R_goto 52 dX0_mostBy_46 (by decide) ?_
        refine S_iinc (v := v5 + 1) (ls1 := [.ref (A 0), .int v1, .int v2, .int (v3 + 1), .int v4, .int (v5 + 1)]) dX0_mostBy_52 rfl rfl (by decide) rfl rfl ?_
        refine R_goto 8 dX0_mostBy_55 (by decide) ?_
        exact h G l hp hB hR
    · replace h := h.2 c8
      refine R_goto 52 dX0_mostBy_25 (by decide) ?_
      refine S_iinc (v := v5 + 1) (ls1 := [.ref (A 0), .int v1, .int v2, .int v3, .int v4, .int (v5 + 1)]) dX0_mostBy_52 rfl rfl (by decide) rfl rfl ?_
      refine R_goto 8 dX0_mostBy_55 (by decide) ?_
      exact h G l hp hB hR
theorem gc_X4_seekf_0 {d : Nat} {v1 : Int32} {c k : Nat} {ρ : Rho} {E : Hp → Prop} {A : Nat → Nat} {σ σ1 : Sg} {r : Option Value} (h : Rv ρ E A mX4_seek (d + 5) c k 7 [.ref (A 21), .int v1, .int 0] [] (upA σ.1 21 (upd (σ.1 21) 0 (-1)), σ.2) r σ1) : Rv ρ E A mX4_seek (d + 5) c k 0 [.ref (A 21), .int v1, U_] [] σ r σ1 := by
  intro G l hp hB hR
  refine R_aload_n dX4_seek_0 rfl ?_
  refine R_iconst (v := (-1)) dX4_seek_1 (by decide) ?_
  refine V_put (o := 21) (σ9 := (upA σ.1 21 (upd (σ.1 21) 0 (-1)), σ.2)) hB.1 dX4_seek_2 fm_X4_15_5 ft_5_0 rfl rfl ⟨by decide, by decide, rfl, rfl⟩ rfl ?_
  refine R_iconst (v := 0) dX4_seek_5 (by decide) ?_
  refine S_istore_n (ls1 := [.ref (A 21), .int v1, .int 0]) dX4_seek_6 (by decide) rfl rfl ?_
  exact h G l hp hB hR
theorem gc_X4_seekf_7 {d : Nat} {v1 : Int32} {v2 : Int32} {c k : Nat} {ρ : Rho} {E : Hp → Prop} {A : Nat → Nat} {σ σ1 : Sg} {r : Option Value} (h : ((v1 < v2) → r = some (.int (σ.1 21 0)) ∧ σ1 = σ) ∧ ((¬ v1 < v2) → ((¬ (v2 &&& (v1 ^^^ (-1))) = 0) → Rv ρ E A mX4_seek (d + 5) c k 7 [.ref (A 21), .int v1, .int (v2 + 1)] [] σ r σ1) ∧ (((v2 &&& (v1 ^^^ (-1))) = 0) → ∃ (r5 : Int32) (σ_3 : Sg), Tv ρ E A mX5_does (d + 4) 0 0 [.ref (A 21), .int v2] σ (some (.int r5)) σ_3 ∧ (((r5 = 0) → Rv ρ E A mX4_seek (d + 5) c k 7 [.ref (A 21), .int v1, .int (v2 + 1)] [] σ_3 r σ1) ∧ ((¬ r5 = 0) → (((σ_3.1 21 0) < 0) → Rv ρ E A mX4_seek (d + 5) c k 7 [.ref (A 21), .int v1, .int (v2 + 1)] [] (upA σ_3.1 21 (upd (σ_3.1 21) 0 v2), σ_3.2) r σ1) ∧ ((¬ (σ_3.1 21 0) < 0) → ∃ (r10 : Int32) (σ_8 : Sg), Tv ρ E A mX5_cost (d + 4) 0 0 [.ref (A 21), .int v2] σ_3 (some (.int r10)) σ_8 ∧ (∃ (r13 : Int32) (σ_11 : Sg), Tv ρ E A mX5_cost (d + 4) 0 0 [.ref (A 21), .int (σ_8.1 21 0)] σ_8 (some (.int r13)) σ_11 ∧ (((r10 < r13) → Rv ρ E A mX4_seek (d + 5) c k 7 [.ref (A 21), .int v1, .int (v2 + 1)] [] (upA σ_11.1 21 (upd (σ_11.1 21) 0 v2), σ_11.2) r σ1) ∧ ((¬ r10 < r13) → Rv ρ E A mX4_seek (d + 5) c k 7 [.ref (A 21), .int v1, .int (v2 + 1)] [] σ_11 r σ1))))))))) : Rv ρ E A mX4_seek (d + 5) c k 7 [.ref (A 21), .int v1, .int v2] [] σ r σ1 := by
  intro G l hp hB hR
  refine R_iload_n dX4_seek_7 rfl ?_
  refine R_iload_n dX4_seek_8 rfl ?_
  refine R_icmp_gt 65 dX4_seek_9 (by decide) (fun c1 => ?_) (fun c1 => ?_)
  · replace h := h.1 c1
    refine R_aload_n dX4_seek_65 rfl ?_
    refine V_get (o := 21) (x := σ.1 21 0) hB.1 dX4_seek_66 fm_X4_15_5 ⟨by decide, by decide, rfl, rfl⟩ rfl ?_
    exact R_iret dX4_seek_69 rfl rfl ⟨h.1.symm, hp, hB, by rw [h.2]⟩
  · replace h := h.2 c1
    refine R_iload_n dX4_seek_12 rfl ?_
    refine R_iload_n dX4_seek_13 rfl ?_
    refine R_iconst (v := (-1)) dX4_seek_14 (by decide) ?_
    refine R_ixor dX4_seek_15 ?_
    refine R_iand dX4_seek_16 ?_
    refine R_if_ne 59 dX4_seek_17 (by decide) (fun c2 => ?_) (fun c2 => ?_)
    · replace h := h.1 c2
      refine S_iinc (v := v2 + 1) (ls1 := [.ref (A 21), .int v1, .int (v2 + 1)]) dX4_seek_59 rfl rfl (by decide) rfl rfl ?_
      refine R_goto 7 dX4_seek_62 (by decide) ?_
      exact h G l hp hB hR
    · replace h := h.2 c2
      refine R_aload_n dX4_seek_20 rfl ?_
      refine R_iload_n dX4_seek_21 rfl ?_
      obtain ⟨r5, σ_3, e4, h⟩ := h
      refine V_callU (o := 21) [.int v2] hB hR dX4_seek_22 cu_X4_19_X5_does_X5 rfl rfl (Nat.le_of_ble_eq_true rfl) ⟨by decide, rfl⟩ rfl e4 (Nat.zero_le _) (Nat.zero_le _) (fun hp hB => ?_)
      show RnH [] G l mX4_seek (d + 5) (PV ρ E A r σ1) noX 25 [.ref (A 21), .int v1, .int v2] [.int r5] (ov rgM A σ_3 hp) c k
      have hR : σ_3.2.2 0 0 = .ref (ρ.1 2) := by rw [e4.1]; exact hR
      refine R_if_eq 59 dX4_seek_25 (by decide) (fun c6 => ?_) (fun c6 => ?_)
      · replace h := h.1 c6
        refine S_iinc (v := v2 + 1) (ls1 := [.ref (A 21), .int v1, .int (v2 + 1)]) dX4_seek_59 rfl rfl (by decide) rfl rfl ?_
        refine R_goto 7 dX4_seek_62 (by decide) ?_
        exact h G l hp hB hR
      · replace h := h.2 c6
        refine R_aload_n dX4_seek_28 rfl ?_
        refine V_get (o := 21) (x := σ_3.1 21 0) hB.1 dX4_seek_29 fm_X4_15_5 ⟨by decide, by decide, rfl, rfl⟩ rfl ?_
        refine R_if_lt 54 dX4_seek_32 (by decide) (fun c7 => ?_) (fun c7 => ?_)
        · replace h := h.1 c7
          refine R_aload_n dX4_seek_54 rfl ?_
          refine R_iload_n dX4_seek_55 rfl ?_
          refine V_put (o := 21) (σ9 := (upA σ_3.1 21 (upd (σ_3.1 21) 0 v2), σ_3.2)) hB.1 dX4_seek_56 fm_X4_15_5 ft_5_0 rfl rfl ⟨by decide, by decide, rfl, rfl⟩ rfl ?_
          refine S_iinc (v := v2 + 1) (ls1 := [.ref (A 21), .int v1, .int (v2 + 1)]) dX4_seek_59 rfl rfl (by decide) rfl rfl ?_
          refine R_goto 7 dX4_seek_62 (by decide) ?_
          exact h G l hp hB hR
        · replace h := h.2 c7
          refine R_aload_n dX4_seek_35 rfl ?_
          refine R_iload_n dX4_seek_36 rfl ?_
          obtain ⟨r10, σ_8, e9, h⟩ := h
          refine V_callU (o := 21) [.int v2] hB hR dX4_seek_37 cu_X4_23_X5_cost_X5 rfl rfl (Nat.le_of_ble_eq_true rfl) ⟨by decide, rfl⟩ rfl e9 (Nat.zero_le _) (Nat.zero_le _) (fun hp hB => ?_)
          show RnH [] G l mX4_seek (d + 5) (PV ρ E A r σ1) noX 40 [.ref (A 21), .int v1, .int v2] [.int r10] (ov rgM A σ_8 hp) c k
          have hR : σ_8.2.2 0 0 = .ref (ρ.1 2) := by rw [e9.1]; exact hR
          refine R_aload_n dX4_seek_40 rfl ?_
          refine R_aload_n dX4_seek_41 rfl ?_
          refine V_get (o := 21) (x := σ_8.1 21 0) hB.1 dX4_seek_42 fm_X4_15_5 ⟨by decide, by decide, rfl, rfl⟩ rfl ?_
          obtain ⟨r13, σ_11, e12, h⟩ := h
          refine V_callU (o := 21) [.int (σ_8.1 21 0)] hB hR dX4_seek_45 cu_X4_23_X5_cost_X5 rfl rfl (Nat.le_of_ble_eq_true rfl) ⟨by decide, rfl⟩ rfl e12 (Nat.zero_le _) (Nat.zero_le _) (fun hp hB => ?_)
          show RnH [] G l mX4_seek (d + 5) (PV ρ E A r σ1) noX 48 [.ref (A 21), .int v1, .int v2] [.int r13, .int r10] (ov rgM A σ_11 hp) c k
          have hR : σ_11.2.2 0 0 = .ref (ρ.1 2) := by rw [e12.1]; exact hR
          refine R_icmp_lt 54 dX4_seek_48 (by decide) (fun c14 => ?_) (fun c14 => ?_)
          · replace h := h.1 c14
            refine R_aload_n dX4_seek_54 rfl ?_
            refine R_iload_n dX4_seek_55 rfl ?_
            refine V_put (o := 21) (σ9 := (upA σ_11.1 21 (upd (σ_11.1 21) 0 v2), σ_11.2)) hB.1 dX4_seek_56 fm_X4_15_5 ft_5_0 rfl rfl ⟨by decide, by decide, rfl, rfl⟩ rfl ?_
            refine S_iinc (v := v2 + 1) (ls1 := [.ref (A 21), .int v1, .int (v2 + 1)]) dX4_seek_59 rfl rfl (by decide) rfl rfl ?_
            refine R_goto 7 dX4_seek_62 (by decide) ?_
            exact h G l hp hB hR
          · replace h := h.2 c14
            refine R_goto 59 dX4_seek_51 (by decide) ?_
            refine S_iinc (v := v2 + 1) (ls1 := [.ref (A 21), .int v1, .int (v2 + 1)]) dX4_seek_59 rfl rfl (by decide) rfl rfl ?_
            refine R_goto 7 dX4_seek_62 (by decide) ?_
            exact h G l hp hB hR
theorem gc_X4_seekw_0 {d : Nat} {v1 : Int32} {c k : Nat} {ρ : Rho} {E : Hp → Prop} {A : Nat → Nat} {σ σ1 : Sg} {r : Option Value} (h : Rv ρ E A mX4_seek (d + 5) c k 7 [.ref (A 22), .int v1, .int 0] [] (upA σ.1 22 (upd (σ.1 22) 0 (-1)), σ.2) r σ1) : Rv ρ E A mX4_seek (d + 5) c k 0 [.ref (A 22), .int v1, U_] [] σ r σ1 := by
  intro G l hp hB hR
  refine R_aload_n dX4_seek_0 rfl ?_
  refine R_iconst (v := (-1)) dX4_seek_1 (by decide) ?_
  refine V_put (o := 22) (σ9 := (upA σ.1 22 (upd (σ.1 22) 0 (-1)), σ.2)) hB.1 dX4_seek_2 fm_X4_15_6 ft_6_0 rfl rfl ⟨by decide, by decide, rfl, rfl⟩ rfl ?_
  refine R_iconst (v := 0) dX4_seek_5 (by decide) ?_
  refine S_istore_n (ls1 := [.ref (A 22), .int v1, .int 0]) dX4_seek_6 (by decide) rfl rfl ?_
  exact h G l hp hB hR
theorem gc_X4_seekw_7 {d : Nat} {v1 : Int32} {v2 : Int32} {c k : Nat} {ρ : Rho} {E : Hp → Prop} {A : Nat → Nat} {σ σ1 : Sg} {r : Option Value} (h : ((v1 < v2) → r = some (.int (σ.1 22 0)) ∧ σ1 = σ) ∧ ((¬ v1 < v2) → ((¬ (v2 &&& (v1 ^^^ (-1))) = 0) → Rv ρ E A mX4_seek (d + 5) c k 7 [.ref (A 22), .int v1, .int (v2 + 1)] [] σ r σ1) ∧ (((v2 &&& (v1 ^^^ (-1))) = 0) → ∃ (r5 : Int32) (σ_3 : Sg), Tv ρ E A mX6_does (d + 4) 0 0 [.ref (A 22), .int v2] σ (some (.int r5)) σ_3 ∧ (((r5 = 0) → Rv ρ E A mX4_seek (d + 5) c k 7 [.ref (A 22), .int v1, .int (v2 + 1)] [] σ_3 r σ1) ∧ ((¬ r5 = 0) → (((σ_3.1 22 0) < 0) → Rv ρ E A mX4_seek (d + 5) c k 7 [.ref (A 22), .int v1, .int (v2 + 1)] [] (upA σ_3.1 22 (upd (σ_3.1 22) 0 v2), σ_3.2) r σ1) ∧ ((¬ (σ_3.1 22 0) < 0) → ∃ (r10 : Int32) (σ_8 : Sg), Tv ρ E A mX6_cost (d + 4) 0 0 [.ref (A 22), .int v2] σ_3 (some (.int r10)) σ_8 ∧ (∃ (r13 : Int32) (σ_11 : Sg), Tv ρ E A mX6_cost (d + 4) 0 0 [.ref (A 22), .int (σ_8.1 22 0)] σ_8 (some (.int r13)) σ_11 ∧ (((r10 < r13) → Rv ρ E A mX4_seek (d + 5) c k 7 [.ref (A 22), .int v1, .int (v2 + 1)] [] (upA σ_11.1 22 (upd (σ_11.1 22) 0 v2), σ_11.2) r σ1) ∧ ((¬ r10 < r13) → Rv ρ E A mX4_seek (d + 5) c k 7 [.ref (A 22), .int v1, .int (v2 + 1)] [] σ_11 r σ1))))))))) : Rv ρ E A mX4_seek (d + 5) c k 7 [.ref (A 22), .int v1, .int v2] [] σ r σ1 := by
  intro G l hp hB hR
  refine R_iload_n dX4_seek_7 rfl ?_
  refine R_iload_n dX4_seek_8 rfl ?_
  refine R_icmp_gt 65 dX4_seek_9 (by decide) (fun c1 => ?_) (fun c1 => ?_)
  · replace h := h.1 c1
    refine R_aload_n dX4_seek_65 rfl ?_
    refine V_get (o := 22) (x := σ.1 22 0) hB.1 dX4_seek_66 fm_X4_15_6 ⟨by decide, by decide, rfl, rfl⟩ rfl ?_
    exact R_iret dX4_seek_69 rfl rfl ⟨h.1.symm, hp, hB, by rw [h.2]⟩
  · replace h := h.2 c1
    refine R_iload_n dX4_seek_12 rfl ?_
    refine R_iload_n dX4_seek_13 rfl ?_
    refine R_iconst (v := (-1)) dX4_seek_14 (by decide) ?_
    refine R_ixor dX4_seek_15 ?_
    refine R_iand dX4_seek_16 ?_
    refine R_if_ne 59 dX4_seek_17 (by decide) (fun c2 => ?_) (fun c2 => ?_)
    · replace h := h.1 c2
      refine S_iinc (v := v2 + 1) (ls1 := [.ref (A 22), .int v1, .int (v2 + 1)]) dX4_seek_59 rfl rfl (by decide) rfl rfl ?_
      refine R_goto 7 dX4_seek_62 (by decide) ?_
      exact h G l hp hB hR
    · replace h := h.2 c2
      refine R_aload_n dX4_seek_20 rfl ?_
      refine R_iload_n dX4_seek_21 rfl ?_
      obtain ⟨r5, σ_3, e4, h⟩ := h
      refine V_callU (o := 22) [.int v2] hB hR dX4_seek_22 cu_X4_19_X6_does_X6 rfl rfl (Nat.le_of_ble_eq_true rfl) ⟨by decide, rfl⟩ rfl e4 (Nat.zero_le _) (Nat.zero_le _) (fun hp hB => ?_)
      show RnH [] G l mX4_seek (d + 5) (PV ρ E A r σ1) noX 25 [.ref (A 22), .int v1, .int v2] [.int r5] (ov rgM A σ_3 hp) c k
      have hR : σ_3.2.2 0 0 = .ref (ρ.1 2) := by rw [e4.1]; exact hR
      refine R_if_eq 59 dX4_seek_25 (by decide) (fun c6 => ?_) (fun c6 => ?_)
      · replace h := h.1 c6
        refine S_iinc (v := v2 + 1) (ls1 := [.ref (A 22), .int v1, .int (v2 + 1)]) dX4_seek_59 rfl rfl (by decide) rfl rfl ?_
        refine R_goto 7 dX4_seek_62 (by decide) ?_
        exact h G l hp hB hR
      · replace h := h.2 c6
        refine R_aload_n dX4_seek_28 rfl ?_
        refine V_get (o := 22) (x := σ_3.1 22 0) hB.1 dX4_seek_29 fm_X4_15_6 ⟨by decide, by decide, rfl, rfl⟩ rfl ?_
        refine R_if_lt 54 dX4_seek_32 (by decide) (fun c7 => ?_) (fun c7 => ?_)
        · replace h := h.1 c7
          refine R_aload_n dX4_seek_54 rfl ?_
          refine R_iload_n dX4_seek_55 rfl ?_
          refine V_put (o := 22) (σ9 := (upA σ_3.1 22 (upd (σ_3.1 22) 0 v2), σ_3.2)) hB.1 dX4_seek_56 fm_X4_15_6 ft_6_0 rfl rfl ⟨by decide, by decide, rfl, rfl⟩ rfl ?_
          refine S_iinc (v := v2 + 1) (ls1 := [.ref (A 22), .int v1, .int (v2 + 1)]) dX4_seek_59 rfl rfl (by decide) rfl rfl ?_
          refine R_goto 7 dX4_seek_62 (by decide) ?_
          exact h G l hp hB hR
        · replace h := h.2 c7
          refine R_aload_n dX4_seek_35 rfl ?_
          refine R_iload_n dX4_seek_36 rfl ?_
          obtain ⟨r10, σ_8, e9, h⟩ := h
          refine V_callU (o := 22) [.int v2] hB hR dX4_seek_37 cu_X4_23_X6_cost_X6 rfl rfl (Nat.le_of_ble_eq_true rfl) ⟨by decide, rfl⟩ rfl e9 (Nat.zero_le _) (Nat.zero_le _) (fun hp hB => ?_)
          show RnH [] G l mX4_seek (d + 5) (PV ρ E A r σ1) noX 40 [.ref (A 22), .int v1, .int v2] [.int r10] (ov rgM A σ_8 hp) c k
          have hR : σ_8.2.2 0 0 = .ref (ρ.1 2) := by rw [e9.1]; exact hR
          refine R_aload_n dX4_seek_40 rfl ?_
          refine R_aload_n dX4_seek_41 rfl ?_
          refine V_get (o := 22) (x := σ_8.1 22 0) hB.1 dX4_seek_42 fm_X4_15_6 ⟨by decide, by decide, rfl, rfl⟩ rfl ?_
          obtain ⟨r13, σ_11, e12, h⟩ := h
          refine V_callU (o := 22) [.int (σ_8.1 22 0)] hB hR dX4_seek_45 cu_X4_23_X6_cost_X6 rfl rfl (Nat.le_of_ble_eq_true rfl) ⟨by decide, rfl⟩ rfl e12 (Nat.zero_le _) (Nat.zero_le _) (fun hp hB => ?_)
          show RnH [] G l mX4_seek (d + 5) (PV ρ E A r σ1) noX 48 [.ref (A 22), .int v1, .int v2] [.int r13, .int r10] (ov rgM A σ_11 hp) c k
          have hR : σ_11.2.2 0 0 = .ref (ρ.1 2) := by rw [e12.1]; exact hR
          refine R_icmp_lt 54 dX4_seek_48 (by decide) (fun c14 => ?_) (fun c14 => ?_)
          · replace h := h.1 c14
            refine R_aload_n dX4_seek_54 rfl ?_
            refine R_iload_n dX4_seek_55 rfl ?_
            refine V_put (o := 22) (σ9 := (upA σ_11.1 22 (upd (σ_11.1 22) 0 v2), σ_11.2)) hB.1 dX4_seek_56 fm_X4_15_6 ft_6_0 rfl rfl ⟨by decide, by decide, rfl, rfl⟩ rfl ?_
            refine S_iinc (v := v2 + 1) (ls1 := [.ref (A 22), .int v1, .int (v2 + 1)]) dX4_seek_59 rfl rfl (by decide) rfl rfl ?_
            refine R_goto 7 dX4_seek_62 (by decide) ?_
            exact h G l hp hB hR
          · replace h := h.2 c14
            refine R_goto 59 dX4_seek_51 (by decide) ?_
            refine S_iinc (v := v2 + 1) (ls1 := [.ref (A 22), .int v1, .int (v2 + 1)]) dX4_seek_59 rfl rfl (by decide) rfl rfl ?_
            refine R_goto 7 dX4_seek_62 (by decide) ?_
            exact h G l hp hB hR
theorem gc_X0_buttons_0 {d : Nat} {c k : Nat} {ρ : Rho} {E : Hp → Prop} {A : Nat → Nat} {σ σ1 : Sg} {r : Option Value} (h : Rv ρ E A mX0_buttons (d + 6) c k 2 [.ref (A 0), .int 0] [] σ r σ1) : Rv ρ E A mX0_buttons (d + 6) c k 0 [.ref (A 0), U_] [] σ r σ1 := by
  intro G l hp hB hR
  refine R_iconst (v := 0) dX0_buttons_0 (by decide) ?_
  refine S_istore_n (ls1 := [.ref (A 0), .int 0]) dX0_buttons_1 (by decide) rfl rfl ?_
  exact h G l hp hB hR
theorem gc_X0_buttons_2 {d : Nat} {v1 : Int32} {c k : Nat} {ρ : Rho} {E : Hp → Prop} {A : Nat → Nat} {σ σ1 : Sg} {r : Option Value} (h : ∃ (r3 : Int32) (σ_1 : Sg), Tv ρ E A mX0_goColour (d + 5) 0 0 [.ref (A 0), .int 0, .int v1] σ (some (.int r3)) σ_1 ∧ (((¬ r3 = 0) → ∃ (r7 : Int32) (σ_5 : Sg), Tv ρ E A mX0_men (d + 5) 0 0 [.ref (A 0)] σ_1 (some (.int r7)) σ_5 ∧ (r = some (.int v1) ∧ σ1 = (upA σ_5.1 0 (upd (σ_5.1 0) 13 r7), σ_5.2))) ∧ ((r3 = 0) → Rv ρ E A mX0_buttons (d + 6) c k 2 [.ref (A 0), .int (v1 + 1)] [] σ_1 r σ1))) : Rv ρ E A mX0_buttons (d + 6) c k 2 [.ref (A 0), .int v1] [] σ r σ1 := by
  intro G l hp hB hR
  refine R_aload_n dX0_buttons_2 rfl ?_
  refine R_iconst (v := 0) dX0_buttons_3 (by decide) ?_
  refine R_iload_n dX0_buttons_4 rfl ?_
  obtain ⟨r3, σ_1, e2, h⟩ := h
  refine V_call (o := 0) [.int 0, .int v1] hB hR dX0_buttons_5 cv_X0_321 rfl rfl (Nat.le_of_ble_eq_true rfl) ⟨by decide, rfl⟩ rfl e2 (Nat.zero_le _) (Nat.zero_le _) (fun hp hB => ?_)
  show RnH [] G l mX0_buttons (d + 6) (PV ρ E A r σ1) noX 8 [.ref (A 0), .int v1] [.int r3] (ov rgM A σ_1 hp) c k
  have hR : σ_1.2.2 0 0 = .ref (ρ.1 2) := by rw [e2.1]; exact hR
  refine R_if_ne 17 dX0_buttons_8 (by decide) (fun c4 => ?_) (fun c4 => ?_)
  · replace h := h.1 c4
    refine R_aload_n dX0_buttons_17 rfl ?_
    refine R_aload_n dX0_buttons_18 rfl ?_
    obtain ⟨r7, σ_5, e6, h⟩ := h
    refine V_call (o := 0) [] hB hR dX0_buttons_19 cv_X0_143 rfl rfl (Nat.le_of_ble_eq_true rfl) ⟨by decide, rfl⟩ rfl e6 (Nat.zero_le _) (Nat.zero_le _) (fun hp hB => ?_)
    show RnH [] G l mX0_buttons (d + 6) (PV ρ E A r σ1) noX 22 [.ref (A 0), .int v1] [.int r7, .ref (A 0)] (ov rgM A σ_5 hp) c k
    have hR : σ_5.2.2 0 0 = .ref (ρ.1 2) := by rw [e6.1]; exact hR
    refine V_put (o := 0) (σ9 := (upA σ_5.1 0 (upd (σ_5.1 0) 13 r7), σ_5.2)) hB.1 dX0_buttons_22 fm_X0_112_1 ft_1_13 rfl rfl ⟨by decide, by decide, rfl, rfl⟩ rfl ?_
    refine R_iload_n dX0_buttons_25 rfl ?_
    exact R_iret dX0_buttons_26 rfl rfl ⟨h.1.symm, hp, hB, by rw [h.2]⟩
  · replace h := h.2 c4
    refine S_iinc (v := v1 + 1) (ls1 := [.ref (A 0), .int (v1 + 1)]) dX0_buttons_11 rfl rfl (by decide) rfl rfl ?_
    refine R_goto 2 dX0_buttons_14 (by decide) ?_
    exact h G l hp hB hR
theorem gc_X0_front_0 {d : Nat} {v1 : Int32} {v2 : Int32} {c k : Nat} {ρ : Rho} {E : Hp → Prop} {A : Nat → Nat} {σ σ1 : Sg} {r : Option Value} (h : (((s0_isIn v1 0 999) = 0) → r = some (.int (-1)) ∧ σ1 = σ) ∧ ((¬ (s0_isIn v1 0 999) = 0) → ((¬ (s0_isIn v2 0 1) = 0) → ∃ (r5 : Int32) (σ_3 : Sg), Tv ρ E A mX2_dressed (d + 5) 0 0 [.ref (A 1)] (upA σ.1 21 (upd (σ.1 21) 2 v1), σ.2) (some (.int r5)) σ_3 ∧ (∃ (r8 : Int32) (σ_6 : Sg), Tv ρ E A mX4_seek (d + 5) 0 0 [.ref (A 21), .int r5] σ_3 (some (.int r8)) σ_6 ∧ (r = some (.int (if 0 ≤ r8 then if v2 = 0 then sj_bitCount r8 else r8 else (-1))) ∧ σ1 = σ_6))) ∧ (((s0_isIn v2 0 1) = 0) → r = some (.int (-1)) ∧ σ1 = σ))) : Rv ρ E A mX0_front (d + 6) c k 0 [.ref (A 0), .int v1, .int v2, U_] [] σ r σ1 := by
  intro G l hp hB hR
  refine R_iload_n dX0_front_0 rfl ?_
  refine R_iconst (v := 0) dX0_front_1 (by decide) ?_
  refine R_sipush (v := 999) dX0_front_2 (by decide) ?_
  refine V_callS [.int v1, .int 0, .int 999] dX0_front_5 cs_X0_145 rfl rfl (Nat.le_of_ble_eq_true rfl) (s0t_isIn (d + 4) v1 0 999) ?_
  show RnH [] G l mX0_front (d + 6) (PV ρ E A r σ1) noX 8 [.ref (A 0), .int v1, .int v2, U_] [.int (s0_isIn v1 0 999)] (ov rgM A σ hp) c k
  refine R_if_eq 20 dX0_front_8 (by decide) (fun c1 => ?_) (fun c1 => ?_)
  · replace h := h.1 c1
    refine R_iconst (v := (-1)) dX0_front_20 (by decide) ?_
    exact R_iret dX0_front_21 rfl rfl ⟨h.1.symm, hp, hB, by rw [h.2]⟩
  · replace h := h.2 c1
    refine R_iload_n dX0_front_11 rfl ?_
    refine R_iconst (v := 0) dX0_front_12 (by decide) ?_
    refine R_iconst (v := 1) dX0_front_13 (by decide) ?_
    refine V_callS [.int v2, .int 0, .int 1] dX0_front_14 cs_X0_145 rfl rfl (Nat.le_of_ble_eq_true rfl) (s0t_isIn (d + 4) v2 0 1) ?_
    show RnH [] G l mX0_front (d + 6) (PV ρ E A r σ1) noX 17 [.ref (A 0), .int v1, .int v2, U_] [.int (s0_isIn v2 0 1)] (ov rgM A σ hp) c k
    refine R_if_ne 22 dX0_front_17 (by decide) (fun c2 => ?_) (fun c2 => ?_)
    · replace h := h.1 c2
      refine R_aload_n dX0_front_22 rfl ?_
      refine V_geta (o := 0) (q := 21) hB.1 dX0_front_23 fm_X0_72_1 ⟨by decide, by decide, rfl, rfl⟩ ?_
      refine R_iload_n dX0_front_26 rfl ?_
      refine V_put (o := 21) (σ9 := (upA σ.1 21 (upd (σ.1 21) 2 v1), σ.2)) hB.1 dX0_front_27 fm_X0_294_5 ft_5_2 rfl rfl ⟨by decide, by decide, rfl, rfl⟩ rfl ?_
      refine R_aload_n dX0_front_30 rfl ?_
      refine V_geta (o := 0) (q := 21) hB.1 dX0_front_31 fm_X0_72_1 ⟨by decide, by decide, rfl, rfl⟩ ?_
      refine R_aload_n dX0_front_34 rfl ?_
      refine V_geta (o := 0) (q := 1) hB.1 dX0_front_35 fm_X0_28_1 ⟨by decide, by decide, rfl, rfl⟩ ?_
      obtain ⟨r5, σ_3, e4, h⟩ := h
      refine V_call (o := 1) [] hB hR dX0_front_38 cv_X0_254 rfl rfl (Nat.le_of_ble_eq_true rfl) ⟨by decide, rfl⟩ rfl e4 (Nat.zero_le _) (Nat.zero_le _) (fun hp hB => ?_)
      show RnH [] G l mX0_front (d + 6) (PV ρ E A r σ1) noX 41 [.ref (A 0), .int v1, .int v2, U_] [.int r5, .ref (A 21)] (ov rgM A σ_3 hp) c k
      have hR : σ_3.2.2 0 0 = .ref (ρ.1 2) := by rw [e4.1]; exact hR
      obtain ⟨r8, σ_6, e7, h⟩ := h
      refine V_callU (o := 21) [.int r5] hB hR dX0_front_41 cu_X0_296_X4_seek_X5 rfl rfl (Nat.le_of_ble_eq_true rfl) ⟨by decide, rfl⟩ rfl e7 (Nat.zero_le _) (Nat.zero_le _) (fun hp hB => ?_)
      show RnH [] G l mX0_front (d + 6) (PV ρ E A r σ1) noX 44 [.ref (A 0), .int v1, .int v2, U_] [.int r8] (ov rgM A σ_6 hp) c k
      have hR : σ_6.2.2 0 0 = .ref (ρ.1 2) := by rw [e7.1]; exact hR
      refine S_istore_n (ls1 := [.ref (A 0), .int v1, .int v2, .int r8]) dX0_front_44 (by decide) rfl rfl ?_
      refine R_iload_n dX0_front_45 rfl ?_
      have J9 : RnH [] G l mX0_front (d + 6) (PV ρ E A r σ1) noX 65 [.ref (A 0), .int v1, .int v2, .int r8] [.int (if 0 ≤ r8 then if v2 = 0 then sj_bitCount r8 else r8 else (-1))] (ov rgM A σ_6 hp) c k := by
        exact R_iret dX0_front_65 rfl rfl ⟨h.1.symm, hp, hB, by rw [h.2]⟩
      refine R_if_ge 53 dX0_front_46 (by decide) (fun c10 => ?_) (fun c10 => ?_)
      · refine R_iload_n dX0_front_53 rfl ?_
        refine R_if_ne 64 dX0_front_54 (by decide) (fun c11 => ?_) (fun c11 => ?_)
        · refine R_iload_n dX0_front_64 rfl ?_
          simp only [if_pos c10, if_neg c11] at J9
          first | exact J9 | (simp only [if_pos c10, if_neg c11]; exact J9)
        · refine R_iload_n dX0_front_57 rfl ?_
          refine V_callS [.int r8] dX0_front_58 cs_X0_281 rfl rfl (Nat.le_of_ble_eq_true rfl) (sjt_bitCount (d + 4) r8) ?_
          show RnH [] G l mX0_front (d + 6) (PV ρ E A r σ1) noX 61 [.ref (A 0), .int v1, .int v2, .int r8] [.int (sj_bitCount r8)] (ov rgM A σ_6 hp) c k
          refine R_goto 65 dX0_front_61 (by decide) ?_
          simp only [if_pos c10, if_pos c11] at J9
          first | exact J9 | (simp only [if_pos c10, if_pos c11]; exact J9)
      · refine R_iconst (v := (-1)) dX0_front_49 (by decide) ?_
        refine R_goto 65 dX0_front_50 (by decide) ?_
        simp only [if_neg c10] at J9
        first | exact J9 | (simp only [if_neg c10]; exact J9)
    · replace h := h.2 c2
      refine R_iconst (v := (-1)) dX0_front_20 (by decide) ?_
      exact R_iret dX0_front_21 rfl rfl ⟨h.1.symm, hp, hB, by rw [h.2]⟩
theorem gc_X0_wings_0 {d : Nat} {v1 : Int32} {c k : Nat} {ρ : Rho} {E : Hp → Prop} {A : Nat → Nat} {σ σ1 : Sg} {r : Option Value} (h : ((¬ (s0_isIn v1 0 1) = 0) → ∃ (r4 : Int32) (σ_2 : Sg), Tv ρ E A mX2_dressed (d + 5) 0 0 [.ref (A 1)] σ (some (.int r4)) σ_2 ∧ (∃ (r7 : Int32) (σ_5 : Sg), Tv ρ E A mX4_seek (d + 5) 0 0 [.ref (A 22), .int r4] σ_2 (some (.int r7)) σ_5 ∧ (((¬ v1 = 0) → r = some (.int r7) ∧ σ1 = σ_5) ∧ ((v1 = 0) → ∃ (r11 : Int32) (σ_9 : Sg), Tv ρ E A mX6_cost (d + 5) 0 0 [.ref (A 22), .int r7] σ_5 (some (.int r11)) σ_9 ∧ (r = some (.int r11) ∧ σ1 = σ_9))))) ∧ (((s0_isIn v1 0 1) = 0) → r = some (.int (-1)) ∧ σ1 = σ)) : Rv ρ E A mX0_wings (d + 6) c k 0 [.ref (A 0), .int v1, U_] [] σ r σ1 := by
  intro G l hp hB hR
  refine R_iload_n dX0_wings_0 rfl ?_
  refine R_iconst (v := 0) dX0_wings_1 (by decide) ?_
  refine R_iconst (v := 1) dX0_wings_2 (by decide) ?_
  refine V_callS [.int v1, .int 0, .int 1] dX0_wings_3 cs_X0_145 rfl rfl (Nat.le_of_ble_eq_true rfl) (s0t_isIn (d + 4) v1 0 1) ?_
  show RnH [] G l mX0_wings (d + 6) (PV ρ E A r σ1) noX 6 [.ref (A 0), .int v1, U_] [.int (s0_isIn v1 0 1)] (ov rgM A σ hp) c k
  refine R_if_ne 11 dX0_wings_6 (by decide) (fun c1 => ?_) (fun c1 => ?_)
  · replace h := h.1 c1
    refine R_aload_n dX0_wings_11 rfl ?_
    refine V_geta (o := 0) (q := 22) hB.1 dX0_wings_12 fm_X0_79_1 ⟨by decide, by decide, rfl, rfl⟩ ?_
    refine R_aload_n dX0_wings_15 rfl ?_
    refine V_geta (o := 0) (q := 1) hB.1 dX0_wings_16 fm_X0_28_1 ⟨by decide, by decide, rfl, rfl⟩ ?_
    obtain ⟨r4, σ_2, e3, h⟩ := h
    refine V_call (o := 1) [] hB hR dX0_wings_19 cv_X0_254 rfl rfl (Nat.le_of_ble_eq_true rfl) ⟨by decide, rfl⟩ rfl e3 (Nat.zero_le _) (Nat.zero_le _) (fun hp hB => ?_)
    show RnH [] G l mX0_wings (d + 6) (PV ρ E A r σ1) noX 22 [.ref (A 0), .int v1, U_] [.int r4, .ref (A 22)] (ov rgM A σ_2 hp) c k
    have hR : σ_2.2.2 0 0 = .ref (ρ.1 2) := by rw [e3.1]; exact hR
    obtain ⟨r7, σ_5, e6, h⟩ := h
    refine V_callU (o := 22) [.int r4] hB hR dX0_wings_22 cu_X0_299_X4_seek_X6 rfl rfl (Nat.le_of_ble_eq_true rfl) ⟨by decide, rfl⟩ rfl e6 (Nat.zero_le _) (Nat.zero_le _) (fun hp hB => ?_)
    show RnH [] G l mX0_wings (d + 6) (PV ρ E A r σ1) noX 25 [.ref (A 0), .int v1, U_] [.int r7] (ov rgM A σ_5 hp) c k
    have hR : σ_5.2.2 0 0 = .ref (ρ.1 2) := by rw [e6.1]; exact hR
    refine S_istore_n (ls1 := [.ref (A 0), .int v1, .int r7]) dX0_wings_25 (by decide) rfl rfl ?_
    refine R_iload_n dX0_wings_26 rfl ?_
    refine R_if_ne 41 dX0_wings_27 (by decide) (fun c8 => ?_) (fun c8 => ?_)
    · replace h := h.1 c8
      refine R_iload_n dX0_wings_41 rfl ?_
      exact R_iret dX0_wings_42 rfl rfl ⟨h.1.symm, hp, hB, by rw [h.2]⟩
    · replace h := h.2 c8
      refine R_aload_n dX0_wings_30 rfl ?_
      refine V_geta (o := 0) (q := 22) hB.1 dX0_wings_31 fm_X0_79_1 ⟨by decide, by decide, rfl, rfl⟩ ?_
      refine R_iload_n dX0_wings_34 rfl ?_
      obtain ⟨r11, σ_9, e10, h⟩ := h
      refine V_call (o := 22) [.int r7] hB hR dX0_wings_35 cv_X0_300 rfl rfl (Nat.le_of_ble_eq_true rfl) ⟨by decide, rfl⟩ rfl e10 (Nat.zero_le _) (Nat.zero_le _) (fun hp hB => ?_)
      show RnH [] G l mX0_wings (d + 6) (PV ρ E A r σ1) noX 38 [.ref (A 0), .int v1, .int r7] [.int r11] (ov rgM A σ_9 hp) c k
      have hR : σ_9.2.2 0 0 = .ref (ρ.1 2) := by rw [e10.1]; exact hR
      refine R_goto 42 dX0_wings_38 (by decide) ?_
      exact R_iret dX0_wings_42 rfl rfl ⟨h.1.symm, hp, hB, by rw [h.2]⟩
  · replace h := h.2 c1
    refine R_iconst (v := (-1)) dX0_wings_9 (by decide) ?_
    exact R_iret dX0_wings_10 rfl rfl ⟨h.1.symm, hp, hB, by rw [h.2]⟩
theorem gc_X0_doff_0 {d : Nat} {v1 : Int32} {c k : Nat} {ρ : Rho} {E E1 : Hp → Prop} {A : Nat → Nat} {σ σ1 : Sg} {r : Option Value} (h : ∃ (r3 : Int32) (σ_1 : Sg), Tv ρ E A mX0_isMan (d + 8) 0 0 [.ref (A 0), .int v1] σ (some (.int r3)) σ_1 ∧ (((r3 = 0) → r = some (.int (-1)) ∧ σ1 = σ_1 ∧ E1 = E) ∧ ((¬ r3 = 0) → vp_in v1 6 ∧ (((0 ≤ (σ_1.1 3 v1.toNatClampNeg)) → ∃ (n9 n10 : Nat) (σ_7 : Sg), Tw ρ E E1 A mX0_keepAct (d + 8) n9 n10 [.ref (A 0)] σ_1 none σ_7 ∧ (n9 ≤ c ∧ n10 ≤ k) ∧ (Rv ρ E1 A mX0_doff (d + 9) (c - n9) (k - n10) 26 [.ref (A 0), .int v1, U_] [] σ_7 r σ1)) ∧ ((¬ 0 ≤ (σ_1.1 3 v1.toNatClampNeg)) → r = some (.int (-1)) ∧ σ1 = σ_1 ∧ E1 = E))))) : Rw ρ E E1 A mX0_doff (d + 9) c k 0 [.ref (A 0), .int v1, U_] [] σ r σ1 := by
  intro G l hp hB hR
  refine R_aload_n dX0_doff_0 rfl ?_
  refine R_iload_n dX0_doff_1 rfl ?_
  obtain ⟨r3, σ_1, e2, h⟩ := h
  refine V_call (o := 0) [.int v1] hB hR dX0_doff_2 cv_X0_180 rfl rfl (Nat.le_of_ble_eq_true rfl) ⟨by decide, rfl⟩ rfl e2 (Nat.zero_le _) (Nat.zero_le _) (fun hp hB => ?_)
  show RnH [] G l mX0_doff (d + 9) (PV ρ E1 A r σ1) noX 5 [.ref (A 0), .int v1, U_] [.int r3] (ov rgM A σ_1 hp) c k
  have hR : σ_1.2.2 0 0 = .ref (ρ.1 2) := by rw [e2.1]; exact hR
  refine R_if_eq 20 dX0_doff_5 (by decide) (fun c4 => ?_) (fun c4 => ?_)
  · replace h := h.1 c4
    refine R_iconst (v := (-1)) dX0_doff_20 (by decide) ?_
    exact R_iret dX0_doff_21 rfl rfl ⟨h.1.symm, hp, by rw [h.2.2]; exact hB, by rw [h.2.1]⟩
  · replace h := h.2 c4
    refine R_aload_n dX0_doff_8 rfl ?_
    refine V_geta (o := 0) (q := 1) hB.1 dX0_doff_9 fm_X0_28_1 ⟨by decide, by decide, rfl, rfl⟩ ?_
    refine V_geta (o := 1) (q := 3) hB.1 dX0_doff_12 fm_X0_198_3 ⟨by decide, by decide, rfl, rfl⟩ ?_
    refine R_iload_n dX0_doff_15 rfl ?_
    have b5 := h.1
    replace h := h.2
    refine V_iald (o := 3) (x := σ_1.1 3 v1.toNatClampNeg) hB.1 dX0_doff_16 ⟨by decide, rfl⟩ b5 rfl ?_
    refine R_if_ge 22 dX0_doff_17 (by decide) (fun c6 => ?_) (fun c6 => ?_)
    · replace h := h.1 c6
      refine R_aload_n dX0_doff_22 rfl ?_
      obtain ⟨n9, n10, σ_7, e8, b9, h⟩ := h
      refine V_callW (o := 0) [] hB hR dX0_doff_23 cv_X0_232 rfl rfl (Nat.le_of_ble_eq_true rfl) ⟨by decide, rfl⟩ rfl e8 b9.1 b9.2 (fun hp hB => ?_)
      exact h G l hp hB e8.1
    · replace h := h.2 c6
      refine R_iconst (v := (-1)) dX0_doff_20 (by decide) ?_
      exact R_iret dX0_doff_21 rfl rfl ⟨h.1.symm, hp, by rw [h.2.2]; exact hB, by rw [h.2.1]⟩
theorem gc_X0_doff_26 {d : Nat} {v1 : Int32} {c k : Nat} {ρ : Rho} {E : Hp → Prop} {A : Nat → Nat} {σ σ1 : Sg} {r : Option Value} (h : vp_in v1 6 ∧ (r = some (.int (σ.1 3 v1.toNatClampNeg)) ∧ σ1 = (upA σ.1 3 (upd (σ.1 3) v1.toNatClampNeg (-1)), σ.2))) : Rv ρ E A mX0_doff (d + 9) c k 26 [.ref (A 0), .int v1, U_] [] σ r σ1 := by
  intro G l hp hB hR
  refine R_aload_n dX0_doff_26 rfl ?_
  refine V_geta (o := 0) (q := 1) hB.1 dX0_doff_27 fm_X0_28_1 ⟨by decide, by decide, rfl, rfl⟩ ?_
  refine V_geta (o := 1) (q := 3) hB.1 dX0_doff_30 fm_X0_198_3 ⟨by decide, by decide, rfl, rfl⟩ ?_
  refine R_iload_n dX0_doff_33 rfl ?_
  have b1 := h.1
  replace h := h.2
  refine V_iald (o := 3) (x := σ.1 3 v1.toNatClampNeg) hB.1 dX0_doff_34 ⟨by decide, rfl⟩ b1 rfl ?_
  refine S_istore_n (ls1 := [.ref (A 0), .int v1, .int (σ.1 3 v1.toNatClampNeg)]) dX0_doff_35 (by decide) rfl rfl ?_
  refine R_aload_n dX0_doff_36 rfl ?_
  refine V_geta (o := 0) (q := 1) hB.1 dX0_doff_37 fm_X0_28_1 ⟨by decide, by decide, rfl, rfl⟩ ?_
  refine V_geta (o := 1) (q := 3) hB.1 dX0_doff_40 fm_X0_198_3 ⟨by decide, by decide, rfl, rfl⟩ ?_
  refine R_iload_n dX0_doff_43 rfl ?_
  refine R_iconst (v := (-1)) dX0_doff_44 (by decide) ?_
  refine V_iast (o := 3) (σ9 := (upA σ.1 3 (upd (σ.1 3) v1.toNatClampNeg (-1)), σ.2)) hB.1 dX0_doff_45 ⟨by decide, rfl⟩ b1 rfl ?_
  refine R_iload_n dX0_doff_46 rfl ?_
  exact R_iret dX0_doff_47 rfl rfl ⟨h.1.symm, hp, hB, by rw [h.2]⟩
theorem gc_X0_don_0 {d : Nat} {v1 : Int32} {v2 : Int32} {c k : Nat} {ρ : Rho} {E E1 : Hp → Prop} {A : Nat → Nat} {σ σ1 : Sg} {r : Option Value} (h : ∃ (r3 : Int32) (σ_1 : Sg), Tv ρ E A mX0_isMan (d + 8) 0 0 [.ref (A 0), .int v1] σ (some (.int r3)) σ_1 ∧ (((r3 = 0) → r = some (.int (-2)) ∧ σ1 = σ_1 ∧ E1 = E) ∧ ((¬ r3 = 0) → ∃ (r7 : Int32) (σ_5 : Sg), Tv ρ E A mX0_isCoat (d + 8) 0 0 [.ref (A 0), .int v2] σ_1 (some (.int r7)) σ_5 ∧ (((r7 = 0) → r = some (.int (-2)) ∧ σ1 = σ_5 ∧ E1 = E) ∧ ((¬ r7 = 0) → ∃ (r11 : Int32) (σ_9 : Sg), Tv ρ E A mX2_wearer (d + 8) 0 0 [.ref (A 1), .int v2] σ_5 (some (.int r11)) σ_9 ∧ (((r11 < 0) → ∃ (n15 n16 : Nat) (σ_13 : Sg), Tw ρ E E1 A mX0_keepAct (d + 8) n15 n16 [.ref (A 0)] σ_9 none σ_13 ∧ (n15 ≤ c ∧ n16 ≤ k) ∧ (Rv ρ E1 A mX0_don (d + 9) (c - n15) (k - n16) 34 [.ref (A 0), .int v1, .int v2, U_] [] σ_13 r σ1)) ∧ ((¬ r11 < 0) → r = some (.int (-2)) ∧ σ1 = σ_9 ∧ E1 = E))))))) : Rw ρ E E1 A mX0_don (d + 9) c k 0 [.ref (A 0), .int v1, .int v2, U_] [] σ r σ1 := by
  intro G l hp hB hR
  refine R_aload_n dX0_don_0 rfl ?_
  refine R_iload_n dX0_don_1 rfl ?_
  obtain ⟨r3, σ_1, e2, h⟩ := h
  refine V_call (o := 0) [.int v1] hB hR dX0_don_2 cv_X0_180 rfl rfl (Nat.le_of_ble_eq_true rfl) ⟨by decide, rfl⟩ rfl e2 (Nat.zero_le _) (Nat.zero_le _) (fun hp hB => ?_)
  show RnH [] G l mX0_don (d + 9) (PV ρ E1 A r σ1) noX 5 [.ref (A 0), .int v1, .int v2, U_] [.int r3] (ov rgM A σ_1 hp) c k
  have hR : σ_1.2.2 0 0 = .ref (ρ.1 2) := by rw [e2.1]; exact hR
  refine R_if_eq 27 dX0_don_5 (by decide) (fun c4 => ?_) (fun c4 => ?_)
  · replace h := h.1 c4
    refine R_bipush (v := (-2)) dX0_don_27 (by decide) ?_
    exact R_iret dX0_don_29 rfl rfl ⟨h.1.symm, hp, by rw [h.2.2]; exact hB, by rw [h.2.1]⟩
  · replace h := h.2 c4
    refine R_aload_n dX0_don_8 rfl ?_
    refine R_iload_n dX0_don_9 rfl ?_
    obtain ⟨r7, σ_5, e6, h⟩ := h
    refine V_call (o := 0) [.int v2] hB hR dX0_don_10 cv_X0_205 rfl rfl (Nat.le_of_ble_eq_true rfl) ⟨by decide, rfl⟩ rfl e6 (Nat.zero_le _) (Nat.zero_le _) (fun hp hB => ?_)
    show RnH [] G l mX0_don (d + 9) (PV ρ E1 A r σ1) noX 13 [.ref (A 0), .int v1, .int v2, U_] [.int r7] (ov rgM A σ_5 hp) c k
    have hR : σ_5.2.2 0 0 = .ref (ρ.1 2) := by rw [e6.1]; exact hR
    refine R_if_eq 27 dX0_don_13 (by decide) (fun c8 => ?_) (fun c8 => ?_)
    · replace h := h.1 c8
      refine R_bipush (v := (-2)) dX0_don_27 (by decide) ?_
      exact R_iret dX0_don_29 rfl rfl ⟨h.1.symm, hp, by rw [h.2.2]; exact hB, by rw [h.2.1]⟩
    · replace h := h.2 c8
      refine R_aload_n dX0_don_16 rfl ?_
      refine V_geta (o := 0) (q := 1) hB.1 dX0_don_17 fm_X0_28_1 ⟨by decide, by decide, rfl, rfl⟩ ?_
      refine R_iload_n dX0_don_20 rfl ?_
      obtain ⟨r11, σ_9, e10, h⟩ := h
      refine V_call (o := 1) [.int v2] hB hR dX0_don_21 cv_X0_222 rfl rfl (Nat.le_of_ble_eq_true rfl) ⟨by decide, rfl⟩ rfl e10 (Nat.zero_le _) (Nat.zero_le _) (fun hp hB => ?_)
      show RnH [] G l mX0_don (d + 9) (PV ρ E1 A r σ1) noX 24 [.ref (A 0), .int v1, .int v2, U_] [.int r11] (ov rgM A σ_9 hp) c k
      have hR : σ_9.2.2 0 0 = .ref (ρ.1 2) := by rw [e10.1]; exact hR
      refine R_if_lt 30 dX0_don_24 (by decide) (fun c12 => ?_) (fun c12 => ?_)
      · replace h := h.1 c12
        refine R_aload_n dX0_don_30 rfl ?_
        obtain ⟨n15, n16, σ_13, e14, b9, h⟩ := h
        refine V_callW (o := 0) [] hB hR dX0_don_31 cv_X0_232 rfl rfl (Nat.le_of_ble_eq_true rfl) ⟨by decide, rfl⟩ rfl e14 b9.1 b9.2 (fun hp hB => ?_)
        exact h G l hp hB e14.1
      · replace h := h.2 c12
        refine R_bipush (v := (-2)) dX0_don_27 (by decide) ?_
        exact R_iret dX0_don_29 rfl rfl ⟨h.1.symm, hp, by rw [h.2.2]; exact hB, by rw [h.2.1]⟩
theorem gc_X0_don_34 {d : Nat} {v1 : Int32} {v2 : Int32} {c k : Nat} {ρ : Rho} {E : Hp → Prop} {A : Nat → Nat} {σ σ1 : Sg} {r : Option Value} (h : vp_in v1 6 ∧ (r = some (.int (σ.1 3 v1.toNatClampNeg)) ∧ σ1 = (upA σ.1 3 (upd (σ.1 3) v1.toNatClampNeg v2), σ.2))) : Rv ρ E A mX0_don (d + 9) c k 34 [.ref (A 0), .int v1, .int v2, U_] [] σ r σ1 := by
  intro G l hp hB hR
  refine R_aload_n dX0_don_34 rfl ?_
  refine V_geta (o := 0) (q := 1) hB.1 dX0_don_35 fm_X0_28_1 ⟨by decide, by decide, rfl, rfl⟩ ?_
  refine V_geta (o := 1) (q := 3) hB.1 dX0_don_38 fm_X0_198_3 ⟨by decide, by decide, rfl, rfl⟩ ?_
  refine R_iload_n dX0_don_41 rfl ?_
  have b1 := h.1
  replace h := h.2
  refine V_iald (o := 3) (x := σ.1 3 v1.toNatClampNeg) hB.1 dX0_don_42 ⟨by decide, rfl⟩ b1 rfl ?_
  refine S_istore_n (ls1 := [.ref (A 0), .int v1, .int v2, .int (σ.1 3 v1.toNatClampNeg)]) dX0_don_43 (by decide) rfl rfl ?_
  refine R_aload_n dX0_don_44 rfl ?_
  refine V_geta (o := 0) (q := 1) hB.1 dX0_don_45 fm_X0_28_1 ⟨by decide, by decide, rfl, rfl⟩ ?_
  refine V_geta (o := 1) (q := 3) hB.1 dX0_don_48 fm_X0_198_3 ⟨by decide, by decide, rfl, rfl⟩ ?_
  refine R_iload_n dX0_don_51 rfl ?_
  refine R_iload_n dX0_don_52 rfl ?_
  refine V_iast (o := 3) (σ9 := (upA σ.1 3 (upd (σ.1 3) v1.toNatClampNeg v2), σ.2)) hB.1 dX0_don_53 ⟨by decide, rfl⟩ b1 rfl ?_
  refine R_iload_n dX0_don_54 rfl ?_
  exact R_iret dX0_don_55 rfl rfl ⟨h.1.symm, hp, hB, by rw [h.2]⟩
theorem gc_X0_hem_0 {d : Nat} {v1 : Int32} {v2 : Int32} {c k : Nat} {ρ : Rho} {E E1 : Hp → Prop} {A : Nat → Nat} {σ σ1 : Sg} {r : Option Value} (h : ∃ (r3 : Int32) (σ_1 : Sg), Tv ρ E A mX0_isCoat (d + 8) 0 0 [.ref (A 0), .int v1] σ (some (.int r3)) σ_1 ∧ (((r3 = 0) → r = some (.int (-1)) ∧ σ1 = σ_1 ∧ E1 = E) ∧ ((¬ r3 = 0) → vp_in v1 6 ∧ (((¬ (s0_isIn v2 1 (σ_1.1 4 v1.toNatClampNeg)) = 0) → ∃ (n9 n10 : Nat) (σ_7 : Sg), Tw ρ E E1 A mX0_keepAct (d + 8) n9 n10 [.ref (A 0)] σ_1 none σ_7 ∧ (n9 ≤ c ∧ n10 ≤ k) ∧ (Rv ρ E1 A mX0_hem (d + 9) (c - n9) (k - n10) 31 [.ref (A 0), .int v1, .int v2] [] σ_7 r σ1)) ∧ (((s0_isIn v2 1 (σ_1.1 4 v1.toNatClampNeg)) = 0) → r = some (.int (-1)) ∧ σ1 = σ_1 ∧ E1 = E))))) : Rw ρ E E1 A mX0_hem (d + 9) c k 0 [.ref (A 0), .int v1, .int v2] [] σ r σ1 := by
  intro G l hp hB hR
  refine R_aload_n dX0_hem_0 rfl ?_
  refine R_iload_n dX0_hem_1 rfl ?_
  obtain ⟨r3, σ_1, e2, h⟩ := h
  refine V_call (o := 0) [.int v1] hB hR dX0_hem_2 cv_X0_205 rfl rfl (Nat.le_of_ble_eq_true rfl) ⟨by decide, rfl⟩ rfl e2 (Nat.zero_le _) (Nat.zero_le _) (fun hp hB => ?_)
  show RnH [] G l mX0_hem (d + 9) (PV ρ E1 A r σ1) noX 5 [.ref (A 0), .int v1, .int v2] [.int r3] (ov rgM A σ_1 hp) c k
  have hR : σ_1.2.2 0 0 = .ref (ρ.1 2) := by rw [e2.1]; exact hR
  refine R_if_eq 25 dX0_hem_5 (by decide) (fun c4 => ?_) (fun c4 => ?_)
  · replace h := h.1 c4
    refine R_iconst (v := (-1)) dX0_hem_25 (by decide) ?_
    exact R_iret dX0_hem_26 rfl rfl ⟨h.1.symm, hp, by rw [h.2.2]; exact hB, by rw [h.2.1]⟩
  · replace h := h.2 c4
    refine R_iload_n dX0_hem_8 rfl ?_
    refine R_iconst (v := 1) dX0_hem_9 (by decide) ?_
    refine R_aload_n dX0_hem_10 rfl ?_
    refine V_geta (o := 0) (q := 1) hB.1 dX0_hem_11 fm_X0_28_1 ⟨by decide, by decide, rfl, rfl⟩ ?_
    refine V_geta (o := 1) (q := 4) hB.1 dX0_hem_14 fm_X0_208_3 ⟨by decide, by decide, rfl, rfl⟩ ?_
    refine R_iload_n dX0_hem_17 rfl ?_
    have b5 := h.1
    replace h := h.2
    refine V_iald (o := 4) (x := σ_1.1 4 v1.toNatClampNeg) hB.1 dX0_hem_18 ⟨by decide, rfl⟩ b5 rfl ?_
    refine V_callS [.int v2, .int 1, .int (σ_1.1 4 v1.toNatClampNeg)] dX0_hem_19 cs_X0_145 rfl rfl (Nat.le_of_ble_eq_true rfl) (s0t_isIn (d + 7) v2 1 (σ_1.1 4 v1.toNatClampNeg)) ?_
    show RnH [] G l mX0_hem (d + 9) (PV ρ E1 A r σ1) noX 22 [.ref (A 0), .int v1, .int v2] [.int (s0_isIn v2 1 (σ_1.1 4 v1.toNatClampNeg))] (ov rgM A σ_1 hp) c k
    refine R_if_ne 27 dX0_hem_22 (by decide) (fun c6 => ?_) (fun c6 => ?_)
    · replace h := h.1 c6
      refine R_aload_n dX0_hem_27 rfl ?_
      obtain ⟨n9, n10, σ_7, e8, b9, h⟩ := h
      refine V_callW (o := 0) [] hB hR dX0_hem_28 cv_X0_232 rfl rfl (Nat.le_of_ble_eq_true rfl) ⟨by decide, rfl⟩ rfl e8 b9.1 b9.2 (fun hp hB => ?_)
      exact h G l hp hB e8.1
    · replace h := h.2 c6
      refine R_iconst (v := (-1)) dX0_hem_25 (by decide) ?_
      exact R_iret dX0_hem_26 rfl rfl ⟨h.1.symm, hp, by rw [h.2.2]; exact hB, by rw [h.2.1]⟩
theorem gc_X0_hem_31 {d : Nat} {v1 : Int32} {v2 : Int32} {c k : Nat} {ρ : Rho} {E : Hp → Prop} {A : Nat → Nat} {σ σ1 : Sg} {r : Option Value} (h : vp_in v1 6 ∧ (r = some (.int ((upd (σ.1 4) v1.toNatClampNeg ((σ.1 4 v1.toNatClampNeg) - v2)) v1.toNatClampNeg)) ∧ σ1 = (upA σ.1 4 (upd (σ.1 4) v1.toNatClampNeg ((σ.1 4 v1.toNatClampNeg) - v2)), σ.2))) : Rv ρ E A mX0_hem (d + 9) c k 31 [.ref (A 0), .int v1, .int v2] [] σ r σ1 := by
  intro G l hp hB hR
  refine R_aload_n dX0_hem_31 rfl ?_
  refine V_geta (o := 0) (q := 1) hB.1 dX0_hem_32 fm_X0_28_1 ⟨by decide, by decide, rfl, rfl⟩ ?_
  refine V_geta (o := 1) (q := 4) hB.1 dX0_hem_35 fm_X0_208_3 ⟨by decide, by decide, rfl, rfl⟩ ?_
  refine R_iload_n dX0_hem_38 rfl ?_
  refine R_dup2 dX0_hem_39 rfl rfl ?_
  have b1 := h.1
  replace h := h.2
  refine V_iald (o := 4) (x := σ.1 4 v1.toNatClampNeg) hB.1 dX0_hem_40 ⟨by decide, rfl⟩ b1 rfl ?_
  refine R_iload_n dX0_hem_41 rfl ?_
  refine R_isub dX0_hem_42 ?_
  refine V_iast (o := 4) (σ9 := (upA σ.1 4 (upd (σ.1 4) v1.toNatClampNeg ((σ.1 4 v1.toNatClampNeg) - v2)), σ.2)) hB.1 dX0_hem_43 ⟨by decide, rfl⟩ b1 rfl ?_
  refine R_aload_n dX0_hem_44 rfl ?_
  refine V_geta (o := 0) (q := 1) hB.1 dX0_hem_45 fm_X0_28_1 ⟨by decide, by decide, rfl, rfl⟩ ?_
  refine V_geta (o := 1) (q := 4) hB.1 dX0_hem_48 fm_X0_208_3 ⟨by decide, by decide, rfl, rfl⟩ ?_
  refine R_iload_n dX0_hem_51 rfl ?_
  refine V_iald (o := 4) (x := (upd (σ.1 4) v1.toNatClampNeg ((σ.1 4 v1.toNatClampNeg) - v2)) v1.toNatClampNeg) hB.1 dX0_hem_52 ⟨by decide, rfl⟩ b1 rfl ?_
  exact R_iret dX0_hem_53 rfl rfl ⟨h.1.symm, hp, hB, by rw [h.2]⟩
theorem gc_X0_letout_0 {d : Nat} {v1 : Int32} {v2 : Int32} {c k : Nat} {ρ : Rho} {E E1 : Hp → Prop} {A : Nat → Nat} {σ σ1 : Sg} {r : Option Value} (h : ∃ (r3 : Int32) (σ_1 : Sg), Tv ρ E A mX0_isCoat (d + 8) 0 0 [.ref (A 0), .int v1] σ (some (.int r3)) σ_1 ∧ (((r3 = 0) → r = some (.int (-1)) ∧ σ1 = σ_1 ∧ E1 = E) ∧ ((¬ r3 = 0) → vp_in v1 6 ∧ ((((s0_isIn v2 1 (σ_1.1 6 v1.toNatClampNeg)) = 0) → r = some (.int (-1)) ∧ σ1 = σ_1 ∧ E1 = E) ∧ ((¬ (s0_isIn v2 1 (σ_1.1 6 v1.toNatClampNeg)) = 0) → ((((σ_1.1 5 v1.toNatClampNeg) + v2) ≤ 99) → ∃ (n10 n11 : Nat) (σ_8 : Sg), Tw ρ E E1 A mX0_keepAct (d + 8) n10 n11 [.ref (A 0)] σ_1 none σ_8 ∧ (n10 ≤ c ∧ n11 ≤ k) ∧ (Rv ρ E1 A mX0_letout (d + 9) (c - n10) (k - n11) 47 [.ref (A 0), .int v1, .int v2] [] σ_8 r σ1)) ∧ ((¬ ((σ_1.1 5 v1.toNatClampNeg) + v2) ≤ 99) → r = some (.int (-1)) ∧ σ1 = σ_1 ∧ E1 = E)))))) : Rw ρ E E1 A mX0_letout (d + 9) c k 0 [.ref (A 0), .int v1, .int v2] [] σ r σ1 := by
  intro G l hp hB hR
  refine R_aload_n dX0_letout_0 rfl ?_
  refine R_iload_n dX0_letout_1 rfl ?_
  obtain ⟨r3, σ_1, e2, h⟩ := h
  refine V_call (o := 0) [.int v1] hB hR dX0_letout_2 cv_X0_205 rfl rfl (Nat.le_of_ble_eq_true rfl) ⟨by decide, rfl⟩ rfl e2 (Nat.zero_le _) (Nat.zero_le _) (fun hp hB => ?_)
  show RnH [] G l mX0_letout (d + 9) (PV ρ E1 A r σ1) noX 5 [.ref (A 0), .int v1, .int v2] [.int r3] (ov rgM A σ_1 hp) c k
  have hR : σ_1.2.2 0 0 = .ref (ρ.1 2) := by rw [e2.1]; exact hR
  refine R_if_eq 41 dX0_letout_5 (by decide) (fun c4 => ?_) (fun c4 => ?_)
  · replace h := h.1 c4
    refine R_iconst (v := (-1)) dX0_letout_41 (by decide) ?_
    exact R_iret dX0_letout_42 rfl rfl ⟨h.1.symm, hp, by rw [h.2.2]; exact hB, by rw [h.2.1]⟩
  · replace h := h.2 c4
    refine R_iload_n dX0_letout_8 rfl ?_
    refine R_iconst (v := 1) dX0_letout_9 (by decide) ?_
    refine R_aload_n dX0_letout_10 rfl ?_
    refine V_geta (o := 0) (q := 1) hB.1 dX0_letout_11 fm_X0_28_1 ⟨by decide, by decide, rfl, rfl⟩ ?_
    refine V_geta (o := 1) (q := 6) hB.1 dX0_letout_14 fm_X0_213_3 ⟨by decide, by decide, rfl, rfl⟩ ?_
    refine R_iload_n dX0_letout_17 rfl ?_
    have b5 := h.1
    replace h := h.2
    refine V_iald (o := 6) (x := σ_1.1 6 v1.toNatClampNeg) hB.1 dX0_letout_18 ⟨by decide, rfl⟩ b5 rfl ?_
    refine V_callS [.int v2, .int 1, .int (σ_1.1 6 v1.toNatClampNeg)] dX0_letout_19 cs_X0_145 rfl rfl (Nat.le_of_ble_eq_true rfl) (s0t_isIn (d + 7) v2 1 (σ_1.1 6 v1.toNatClampNeg)) ?_
    show RnH [] G l mX0_letout (d + 9) (PV ρ E1 A r σ1) noX 22 [.ref (A 0), .int v1, .int v2] [.int (s0_isIn v2 1 (σ_1.1 6 v1.toNatClampNeg))] (ov rgM A σ_1 hp) c k
    refine R_if_eq 41 dX0_letout_22 (by decide) (fun c6 => ?_) (fun c6 => ?_)
    · replace h := h.1 c6
      refine R_iconst (v := (-1)) dX0_letout_41 (by decide) ?_
      exact R_iret dX0_letout_42 rfl rfl ⟨h.1.symm, hp, by rw [h.2.2]; exact hB, by rw [h.2.1]⟩
    · replace h := h.2 c6
      refine R_aload_n dX0_letout_25 rfl ?_
      refine V_geta (o := 0) (q := 1) hB.1 dX0_letout_26 fm_X0_28_1 ⟨by decide, by decide, rfl, rfl⟩ ?_
      refine V_geta (o := 1) (q := 5) hB.1 dX0_letout_29 fm_X0_210_3 ⟨by decide, by decide, rfl, rfl⟩ ?_
      refine R_iload_n dX0_letout_32 rfl ?_
      refine V_iald (o := 5) (x := σ_1.1 5 v1.toNatClampNeg) hB.1 dX0_letout_33 ⟨by decide, rfl⟩ b5 rfl ?_
      refine R_iload_n dX0_letout_34 rfl ?_
      refine R_iadd dX0_letout_35 ?_
      refine R_bipush (v := 99) dX0_letout_36 (by decide) ?_
      refine R_icmp_le 43 dX0_letout_38 (by decide) (fun c7 => ?_) (fun c7 => ?_)
      · replace h := h.1 c7
        refine R_aload_n dX0_letout_43 rfl ?_
        obtain ⟨n10, n11, σ_8, e9, b9, h⟩ := h
        refine V_callW (o := 0) [] hB hR dX0_letout_44 cv_X0_232 rfl rfl (Nat.le_of_ble_eq_true rfl) ⟨by decide, rfl⟩ rfl e9 b9.1 b9.2 (fun hp hB => ?_)
        exact h G l hp hB e9.1
      · replace h := h.2 c7
        refine R_iconst (v := (-1)) dX0_letout_41 (by decide) ?_
        exact R_iret dX0_letout_42 rfl rfl ⟨h.1.symm, hp, by rw [h.2.2]; exact hB, by rw [h.2.1]⟩
theorem gc_X0_letout_47 {d : Nat} {v1 : Int32} {v2 : Int32} {c k : Nat} {ρ : Rho} {E : Hp → Prop} {A : Nat → Nat} {σ σ1 : Sg} {r : Option Value} (h : vp_in v1 6 ∧ (r = some (.int ((upd (σ.1 5) v1.toNatClampNeg ((σ.1 5 v1.toNatClampNeg) + v2)) v1.toNatClampNeg)) ∧ σ1 = (upA (upA σ.1 5 (upd (σ.1 5) v1.toNatClampNeg ((σ.1 5 v1.toNatClampNeg) + v2))) 6 (upd (σ.1 6) v1.toNatClampNeg ((σ.1 6 v1.toNatClampNeg) - v2)), σ.2))) : Rv ρ E A mX0_letout (d + 9) c k 47 [.ref (A 0), .int v1, .int v2] [] σ r σ1 := by
  intro G l hp hB hR
  refine R_aload_n dX0_letout_47 rfl ?_
  refine V_geta (o := 0) (q := 1) hB.1 dX0_letout_48 fm_X0_28_1 ⟨by decide, by decide, rfl, rfl⟩ ?_
  refine V_geta (o := 1) (q := 5) hB.1 dX0_letout_51 fm_X0_210_3 ⟨by decide, by decide, rfl, rfl⟩ ?_
  refine R_iload_n dX0_letout_54 rfl ?_
  refine R_dup2 dX0_letout_55 rfl rfl ?_
  have b1 := h.1
  replace h := h.2
  refine V_iald (o := 5) (x := σ.1 5 v1.toNatClampNeg) hB.1 dX0_letout_56 ⟨by decide, rfl⟩ b1 rfl ?_
  refine R_iload_n dX0_letout_57 rfl ?_
  refine R_iadd dX0_letout_58 ?_
  refine V_iast (o := 5) (σ9 := (upA σ.1 5 (upd (σ.1 5) v1.toNatClampNeg ((σ.1 5 v1.toNatClampNeg) + v2)), σ.2)) hB.1 dX0_letout_59 ⟨by decide, rfl⟩ b1 rfl ?_
  refine R_aload_n dX0_letout_60 rfl ?_
  refine V_geta (o := 0) (q := 1) hB.1 dX0_letout_61 fm_X0_28_1 ⟨by decide, by decide, rfl, rfl⟩ ?_
  refine V_geta (o := 1) (q := 6) hB.1 dX0_letout_64 fm_X0_213_3 ⟨by decide, by decide, rfl, rfl⟩ ?_
  refine R_iload_n dX0_letout_67 rfl ?_
  refine R_dup2 dX0_letout_68 rfl rfl ?_
  refine V_iald (o := 6) (x := σ.1 6 v1.toNatClampNeg) hB.1 dX0_letout_69 ⟨by decide, rfl⟩ b1 rfl ?_
  refine R_iload_n dX0_letout_70 rfl ?_
  refine R_isub dX0_letout_71 ?_
  refine V_iast (o := 6) (σ9 := (upA (upA σ.1 5 (upd (σ.1 5) v1.toNatClampNeg ((σ.1 5 v1.toNatClampNeg) + v2))) 6 (upd (σ.1 6) v1.toNatClampNeg ((σ.1 6 v1.toNatClampNeg) - v2)), σ.2)) hB.1 dX0_letout_72 ⟨by decide, rfl⟩ b1 rfl ?_
  refine R_aload_n dX0_letout_73 rfl ?_
  refine V_geta (o := 0) (q := 1) hB.1 dX0_letout_74 fm_X0_28_1 ⟨by decide, by decide, rfl, rfl⟩ ?_
  refine V_geta (o := 1) (q := 5) hB.1 dX0_letout_77 fm_X0_210_3 ⟨by decide, by decide, rfl, rfl⟩ ?_
  refine R_iload_n dX0_letout_80 rfl ?_
  refine V_iald (o := 5) (x := (upd (σ.1 5) v1.toNatClampNeg ((σ.1 5 v1.toNatClampNeg) + v2)) v1.toNatClampNeg) hB.1 dX0_letout_81 ⟨by decide, rfl⟩ b1 rfl ?_
  exact R_iret dX0_letout_82 rfl rfl ⟨h.1.symm, hp, hB, by rw [h.2]⟩
theorem gc_X0_takein_0 {d : Nat} {v1 : Int32} {v2 : Int32} {c k : Nat} {ρ : Rho} {E E1 : Hp → Prop} {A : Nat → Nat} {σ σ1 : Sg} {r : Option Value} (h : ∃ (r3 : Int32) (σ_1 : Sg), Tv ρ E A mX0_isCoat (d + 8) 0 0 [.ref (A 0), .int v1] σ (some (.int r3)) σ_1 ∧ (((r3 = 0) → r = some (.int (-1)) ∧ σ1 = σ_1 ∧ E1 = E) ∧ ((¬ r3 = 0) → vp_in v1 6 ∧ ((((s0_isIn v2 1 (σ_1.1 5 v1.toNatClampNeg)) = 0) → r = some (.int (-1)) ∧ σ1 = σ_1 ∧ E1 = E) ∧ ((¬ (s0_isIn v2 1 (σ_1.1 5 v1.toNatClampNeg)) = 0) → ((((σ_1.1 6 v1.toNatClampNeg) + v2) ≤ 99) → ∃ (n10 n11 : Nat) (σ_8 : Sg), Tw ρ E E1 A mX0_keepAct (d + 8) n10 n11 [.ref (A 0)] σ_1 none σ_8 ∧ (n10 ≤ c ∧ n11 ≤ k) ∧ (Rv ρ E1 A mX0_takein (d + 9) (c - n10) (k - n11) 47 [.ref (A 0), .int v1, .int v2] [] σ_8 r σ1)) ∧ ((¬ ((σ_1.1 6 v1.toNatClampNeg) + v2) ≤ 99) → r = some (.int (-1)) ∧ σ1 = σ_1 ∧ E1 = E)))))) : Rw ρ E E1 A mX0_takein (d + 9) c k 0 [.ref (A 0), .int v1, .int v2] [] σ r σ1 := by
  intro G l hp hB hR
  refine R_aload_n dX0_takein_0 rfl ?_
  refine R_iload_n dX0_takein_1 rfl ?_
  obtain ⟨r3, σ_1, e2, h⟩ := h
  refine V_call (o := 0) [.int v1] hB hR dX0_takein_2 cv_X0_205 rfl rfl (Nat.le_of_ble_eq_true rfl) ⟨by decide, rfl⟩ rfl e2 (Nat.zero_le _) (Nat.zero_le _) (fun hp hB => ?_)
  show RnH [] G l mX0_takein (d + 9) (PV ρ E1 A r σ1) noX 5 [.ref (A 0), .int v1, .int v2] [.int r3] (ov rgM A σ_1 hp) c k
  have hR : σ_1.2.2 0 0 = .ref (ρ.1 2) := by rw [e2.1]; exact hR
  refine R_if_eq 41 dX0_takein_5 (by decide) (fun c4 => ?_) (fun c4 => ?_)
  · replace h := h.1 c4
    refine R_iconst (v := (-1)) dX0_takein_41 (by decide) ?_
    exact R_iret dX0_takein_42 rfl rfl ⟨h.1.symm, hp, by rw [h.2.2]; exact hB, by rw [h.2.1]⟩
  · replace h := h.2 c4
    refine R_iload_n dX0_takein_8 rfl ?_
    refine R_iconst (v := 1) dX0_takein_9 (by decide) ?_
    refine R_aload_n dX0_takein_10 rfl ?_
    refine V_geta (o := 0) (q := 1) hB.1 dX0_takein_11 fm_X0_28_1 ⟨by decide, by decide, rfl, rfl⟩ ?_
    refine V_geta (o := 1) (q := 5) hB.1 dX0_takein_14 fm_X0_210_3 ⟨by decide, by decide, rfl, rfl⟩ ?_
    refine R_iload_n dX0_takein_17 rfl ?_
    have b5 := h.1
    replace h := h.2
    refine V_iald (o := 5) (x := σ_1.1 5 v1.toNatClampNeg) hB.1 dX0_takein_18 ⟨by decide, rfl⟩ b5 rfl ?_
    refine V_callS [.int v2, .int 1, .int (σ_1.1 5 v1.toNatClampNeg)] dX0_takein_19 cs_X0_145 rfl rfl (Nat.le_of_ble_eq_true rfl) (s0t_isIn (d + 7) v2 1 (σ_1.1 5 v1.toNatClampNeg)) ?_
    show RnH [] G l mX0_takein (d + 9) (PV ρ E1 A r σ1) noX 22 [.ref (A 0), .int v1, .int v2] [.int (s0_isIn v2 1 (σ_1.1 5 v1.toNatClampNeg))] (ov rgM A σ_1 hp) c k
    refine R_if_eq 41 dX0_takein_22 (by decide) (fun c6 => ?_) (fun c6 => ?_)
    · replace h := h.1 c6
      refine R_iconst (v := (-1)) dX0_takein_41 (by decide) ?_
      exact R_iret dX0_takein_42 rfl rfl ⟨h.1.symm, hp, by rw [h.2.2]; exact hB, by rw [h.2.1]⟩
    · replace h := h.2 c6
      refine R_aload_n dX0_takein_25 rfl ?_
      refine V_geta (o := 0) (q := 1) hB.1 dX0_takein_26 fm_X0_28_1 ⟨by decide, by decide, rfl, rfl⟩ ?_
      refine V_geta (o := 1) (q := 6) hB.1 dX0_takein_29 fm_X0_213_3 ⟨by decide, by decide, rfl, rfl⟩ ?_
      refine R_iload_n dX0_takein_32 rfl ?_
      refine V_iald (o := 6) (x := σ_1.1 6 v1.toNatClampNeg) hB.1 dX0_takein_33 ⟨by decide, rfl⟩ b5 rfl ?_
      refine R_iload_n dX0_takein_34 rfl ?_
      refine R_iadd dX0_takein_35 ?_
      refine R_bipush (v := 99) dX0_takein_36 (by decide) ?_
      refine R_icmp_le 43 dX0_takein_38 (by decide) (fun c7 => ?_) (fun c7 => ?_)
      · replace h := h.1 c7
        refine R_aload_n dX0_takein_43 rfl ?_
        obtain ⟨n10, n11, σ_8, e9, b9, h⟩ := h
        refine V_callW (o := 0) [] hB hR dX0_takein_44 cv_X0_232 rfl rfl (Nat.le_of_ble_eq_true rfl) ⟨by decide, rfl⟩ rfl e9 b9.1 b9.2 (fun hp hB => ?_)
        exact h G l hp hB e9.1
      · replace h := h.2 c7
        refine R_iconst (v := (-1)) dX0_takein_41 (by decide) ?_
        exact R_iret dX0_takein_42 rfl rfl ⟨h.1.symm, hp, by rw [h.2.2]; exact hB, by rw [h.2.1]⟩
theorem gc_X0_takein_47 {d : Nat} {v1 : Int32} {v2 : Int32} {c k : Nat} {ρ : Rho} {E : Hp → Prop} {A : Nat → Nat} {σ σ1 : Sg} {r : Option Value} (h : vp_in v1 6 ∧ (r = some (.int ((upd (σ.1 5) v1.toNatClampNeg ((σ.1 5 v1.toNatClampNeg) - v2)) v1.toNatClampNeg)) ∧ σ1 = (upA (upA σ.1 5 (upd (σ.1 5) v1.toNatClampNeg ((σ.1 5 v1.toNatClampNeg) - v2))) 6 (upd (σ.1 6) v1.toNatClampNeg ((σ.1 6 v1.toNatClampNeg) + v2)), σ.2))) : Rv ρ E A mX0_takein (d + 9) c k 47 [.ref (A 0), .int v1, .int v2] [] σ r σ1 := by
  intro G l hp hB hR
  refine R_aload_n dX0_takein_47 rfl ?_
  refine V_geta (o := 0) (q := 1) hB.1 dX0_takein_48 fm_X0_28_1 ⟨by decide, by decide, rfl, rfl⟩ ?_
  refine V_geta (o := 1) (q := 5) hB.1 dX0_takein_51 fm_X0_210_3 ⟨by decide, by decide, rfl, rfl⟩ ?_
  refine R_iload_n dX0_takein_54 rfl ?_
  refine R_dup2 dX0_takein_55 rfl rfl ?_
  have b1 := h.1
  replace h := h.2
  refine V_iald (o := 5) (x := σ.1 5 v1.toNatClampNeg) hB.1 dX0_takein_56 ⟨by decide, rfl⟩ b1 rfl ?_
  refine R_iload_n dX0_takein_57 rfl ?_
  refine R_isub dX0_takein_58 ?_
  refine V_iast (o := 5) (σ9 := (upA σ.1 5 (upd (σ.1 5) v1.toNatClampNeg ((σ.1 5 v1.toNatClampNeg) - v2)), σ.2)) hB.1 dX0_takein_59 ⟨by decide, rfl⟩ b1 rfl ?_
  refine R_aload_n dX0_takein_60 rfl ?_
  refine V_geta (o := 0) (q := 1) hB.1 dX0_takein_61 fm_X0_28_1 ⟨by decide, by decide, rfl, rfl⟩ ?_
  refine V_geta (o := 1) (q := 6) hB.1 dX0_takein_64 fm_X0_213_3 ⟨by decide, by decide, rfl, rfl⟩ ?_
  refine R_iload_n dX0_takein_67 rfl ?_
  refine R_dup2 dX0_takein_68 rfl rfl ?_
  refine V_iald (o := 6) (x := σ.1 6 v1.toNatClampNeg) hB.1 dX0_takein_69 ⟨by decide, rfl⟩ b1 rfl ?_
  refine R_iload_n dX0_takein_70 rfl ?_
  refine R_iadd dX0_takein_71 ?_
  refine V_iast (o := 6) (σ9 := (upA (upA σ.1 5 (upd (σ.1 5) v1.toNatClampNeg ((σ.1 5 v1.toNatClampNeg) - v2))) 6 (upd (σ.1 6) v1.toNatClampNeg ((σ.1 6 v1.toNatClampNeg) + v2)), σ.2)) hB.1 dX0_takein_72 ⟨by decide, rfl⟩ b1 rfl ?_
  refine R_aload_n dX0_takein_73 rfl ?_
  refine V_geta (o := 0) (q := 1) hB.1 dX0_takein_74 fm_X0_28_1 ⟨by decide, by decide, rfl, rfl⟩ ?_
  refine V_geta (o := 1) (q := 5) hB.1 dX0_takein_77 fm_X0_210_3 ⟨by decide, by decide, rfl, rfl⟩ ?_
  refine R_iload_n dX0_takein_80 rfl ?_
  refine V_iald (o := 5) (x := (upd (σ.1 5) v1.toNatClampNeg ((σ.1 5 v1.toNatClampNeg) - v2)) v1.toNatClampNeg) hB.1 dX0_takein_81 ⟨by decide, rfl⟩ b1 rfl ?_
  exact R_iret dX0_takein_82 rfl rfl ⟨h.1.symm, hp, hB, by rw [h.2]⟩
theorem gc_X0_turn_0 {d : Nat} {v1 : Int32} {c k : Nat} {ρ : Rho} {E E1 : Hp → Prop} {A : Nat → Nat} {σ σ1 : Sg} {r : Option Value} (h : ∃ (r3 : Int32) (σ_1 : Sg), Tv ρ E A mX0_isCoat (d + 8) 0 0 [.ref (A 0), .int v1] σ (some (.int r3)) σ_1 ∧ (((r3 = 0) → r = some (.int (-1)) ∧ σ1 = σ_1 ∧ E1 = E) ∧ ((¬ r3 = 0) → (((s0_has (σ_1.1 1 6) v1) = 0) → ∃ (n8 n9 : Nat) (σ_6 : Sg), Tw ρ E E1 A mX0_keepAct (d + 8) n8 n9 [.ref (A 0)] σ_1 none σ_6 ∧ (n8 ≤ c ∧ n9 ≤ k) ∧ (Rv ρ E1 A mX0_turn (d + 9) (c - n8) (k - n9) 28 [.ref (A 0), .int v1, U_] [] σ_6 r σ1)) ∧ ((¬ (s0_has (σ_1.1 1 6) v1) = 0) → r = some (.int (-1)) ∧ σ1 = σ_1 ∧ E1 = E)))) : Rw ρ E E1 A mX0_turn (d + 9) c k 0 [.ref (A 0), .int v1, U_] [] σ r σ1 := by
  intro G l hp hB hR
  refine R_aload_n dX0_turn_0 rfl ?_
  refine R_iload_n dX0_turn_1 rfl ?_
  obtain ⟨r3, σ_1, e2, h⟩ := h
  refine V_call (o := 0) [.int v1] hB hR dX0_turn_2 cv_X0_205 rfl rfl (Nat.le_of_ble_eq_true rfl) ⟨by decide, rfl⟩ rfl e2 (Nat.zero_le _) (Nat.zero_le _) (fun hp hB => ?_)
  show RnH [] G l mX0_turn (d + 9) (PV ρ E1 A r σ1) noX 5 [.ref (A 0), .int v1, U_] [.int r3] (ov rgM A σ_1 hp) c k
  have hR : σ_1.2.2 0 0 = .ref (ρ.1 2) := by rw [e2.1]; exact hR
  refine R_if_eq 22 dX0_turn_5 (by decide) (fun c4 => ?_) (fun c4 => ?_)
  · replace h := h.1 c4
    refine R_iconst (v := (-1)) dX0_turn_22 (by decide) ?_
    exact R_iret dX0_turn_23 rfl rfl ⟨h.1.symm, hp, by rw [h.2.2]; exact hB, by rw [h.2.1]⟩
  · replace h := h.2 c4
    refine R_aload_n dX0_turn_8 rfl ?_
    refine V_geta (o := 0) (q := 1) hB.1 dX0_turn_9 fm_X0_28_1 ⟨by decide, by decide, rfl, rfl⟩ ?_
    refine V_get (o := 1) (x := σ_1.1 1 6) hB.1 dX0_turn_12 fm_X0_219_3 ⟨by decide, by decide, rfl, rfl⟩ rfl ?_
    refine R_iload_n dX0_turn_15 rfl ?_
    refine V_callS [.int (σ_1.1 1 6), .int v1] dX0_turn_16 cs_X0_239 rfl rfl (Nat.le_of_ble_eq_true rfl) (s0t_has (d + 7) (σ_1.1 1 6) v1) ?_
    show RnH [] G l mX0_turn (d + 9) (PV ρ E1 A r σ1) noX 19 [.ref (A 0), .int v1, U_] [.int (s0_has (σ_1.1 1 6) v1)] (ov rgM A σ_1 hp) c k
    refine R_if_eq 24 dX0_turn_19 (by decide) (fun c5 => ?_) (fun c5 => ?_)
    · replace h := h.1 c5
      refine R_aload_n dX0_turn_24 rfl ?_
      obtain ⟨n8, n9, σ_6, e7, b9, h⟩ := h
      refine V_callW (o := 0) [] hB hR dX0_turn_25 cv_X0_232 rfl rfl (Nat.le_of_ble_eq_true rfl) ⟨by decide, rfl⟩ rfl e7 b9.1 b9.2 (fun hp hB => ?_)
      exact h G l hp hB e7.1
    · replace h := h.2 c5
      refine R_iconst (v := (-1)) dX0_turn_22 (by decide) ?_
      exact R_iret dX0_turn_23 rfl rfl ⟨h.1.symm, hp, by rw [h.2.2]; exact hB, by rw [h.2.1]⟩
theorem gc_X0_turn_28 {d : Nat} {v1 : Int32} {c k : Nat} {ρ : Rho} {E : Hp → Prop} {A : Nat → Nat} {σ σ1 : Sg} {r : Option Value} (h : vp_in v1 6 ∧ (r = some (.int (σ.1 7 v1.toNatClampNeg)) ∧ σ1 = (upA (upA σ.1 7 (upd (σ.1 7) v1.toNatClampNeg 0)) 1 (upd (σ.1 1) 6 ((σ.1 1 6) ||| (1 <<< (v1 &&& 31)))), σ.2))) : Rv ρ E A mX0_turn (d + 9) c k 28 [.ref (A 0), .int v1, U_] [] σ r σ1 := by
  intro G l hp hB hR
  refine R_aload_n dX0_turn_28 rfl ?_
  refine V_geta (o := 0) (q := 1) hB.1 dX0_turn_29 fm_X0_28_1 ⟨by decide, by decide, rfl, rfl⟩ ?_
  refine V_geta (o := 1) (q := 7) hB.1 dX0_turn_32 fm_X0_216_3 ⟨by decide, by decide, rfl, rfl⟩ ?_
  refine R_iload_n dX0_turn_35 rfl ?_
  have b1 := h.1
  replace h := h.2
  refine V_iald (o := 7) (x := σ.1 7 v1.toNatClampNeg) hB.1 dX0_turn_36 ⟨by decide, rfl⟩ b1 rfl ?_
  refine S_istore_n (ls1 := [.ref (A 0), .int v1, .int (σ.1 7 v1.toNatClampNeg)]) dX0_turn_37 (by decide) rfl rfl ?_
  refine R_aload_n dX0_turn_38 rfl ?_
  refine V_geta (o := 0) (q := 1) hB.1 dX0_turn_39 fm_X0_28_1 ⟨by decide, by decide, rfl, rfl⟩ ?_
  refine V_geta (o := 1) (q := 7) hB.1 dX0_turn_42 fm_X0_216_3 ⟨by decide, by decide, rfl, rfl⟩ ?_
  refine R_iload_n dX0_turn_45 rfl ?_
  refine R_iconst (v := 0) dX0_turn_46 (by decide) ?_
  refine V_iast (o := 7) (σ9 := (upA σ.1 7 (upd (σ.1 7) v1.toNatClampNeg 0), σ.2)) hB.1 dX0_turn_47 ⟨by decide, rfl⟩ b1 rfl ?_
  refine R_aload_n dX0_turn_48 rfl ?_
  refine V_geta (o := 0) (q := 1) hB.1 dX0_turn_49 fm_X0_28_1 ⟨by decide, by decide, rfl, rfl⟩ ?_
  refine R_dup dX0_turn_52 rfl ?_
  refine V_get (o := 1) (x := σ.1 1 6) hB.1 dX0_turn_53 fm_X0_219_3 ⟨by decide, by decide, rfl, rfl⟩ rfl ?_
  refine R_iconst (v := 1) dX0_turn_56 (by decide) ?_
  refine R_iload_n dX0_turn_57 rfl ?_
  refine R_ishl dX0_turn_58 ?_
  refine R_ior dX0_turn_59 ?_
  refine V_put (o := 1) (σ9 := (upA (upA σ.1 7 (upd (σ.1 7) v1.toNatClampNeg 0)) 1 (upd (σ.1 1) 6 ((σ.1 1 6) ||| (1 <<< (v1 &&& 31)))), σ.2)) hB.1 dX0_turn_60 fm_X0_219_3 ft_3_6 rfl rfl ⟨by decide, by decide, rfl, rfl⟩ rfl ?_
  refine R_iload_n dX0_turn_63 rfl ?_
  exact R_iret dX0_turn_64 rfl rfl ⟨h.1.symm, hp, hB, by rw [h.2]⟩
theorem gc_X1_misfitn_0 {d : Nat} {v2 : Int32} {v3 : Int32} {c k : Nat} {ρ : Rho} {E : Hp → Prop} {A : Nat → Nat} {σ σ1 : Sg} {r : Option Value} (h : vp_in v2 6 ∧ (vp_in v3 6 ∧ (vp_in v2 (ρ.1 0) ∧ ((∀ q4, rIll ρ = some q4 → rIll ρ = some q4 ∧ (r = some (.int (s0_within ((runL (upd (upd (upd (upd (upd (upd (σ.1 30) 0 (sj_max 0 ((σ.1 2 v2.toNatClampNeg) - (σ.1 5 v3.toNatClampNeg)))) 1 (sj_max 0 ((σ.1 5 v3.toNatClampNeg) - (σ.1 2 v2.toNatClampNeg)))) 2 (sj_max 0 ((mnI ρ v2.toNatClampNeg 1) - (σ.1 4 v3.toNatClampNeg)))) 3 (sj_max 0 ((σ.1 4 v3.toNatClampNeg) - (mnI ρ v2.toNatClampNeg 1)))) 4 (σ.1 7 v3.toNatClampNeg)) 5 (σ.1 1 7)) q4.2.2 []).headD 0) 999)) ∧ σ1 = (upA σ.1 30 (upd (upd (upd (upd (upd (upd (σ.1 30) 0 (sj_max 0 ((σ.1 2 v2.toNatClampNeg) - (σ.1 5 v3.toNatClampNeg)))) 1 (sj_max 0 ((σ.1 5 v3.toNatClampNeg) - (σ.1 2 v2.toNatClampNeg)))) 2 (sj_max 0 ((mnI ρ v2.toNatClampNeg 1) - (σ.1 4 v3.toNatClampNeg)))) 3 (sj_max 0 ((σ.1 4 v3.toNatClampNeg) - (mnI ρ v2.toNatClampNeg 1)))) 4 (σ.1 7 v3.toNatClampNeg)) 5 (σ.1 1 7)), σ.2))) ∧ (rIll ρ = none → r = some (.int (sj_min 999 ((((((sj_max 0 ((σ.1 2 v2.toNatClampNeg) - (σ.1 5 v3.toNatClampNeg))) * 3) + (sj_max 0 ((σ.1 5 v3.toNatClampNeg) - (σ.1 2 v2.toNatClampNeg)))) + ((sj_max 0 ((mnI ρ v2.toNatClampNeg 1) - (σ.1 4 v3.toNatClampNeg))) * 2)) + (sj_max 0 ((σ.1 4 v3.toNatClampNeg) - (mnI ρ v2.toNatClampNeg 1)))) + (σ.1 7 v3.toNatClampNeg)))) ∧ σ1 = σ))))) : Rv ρ E A mX1_misfit (d + 301) c k 0 [.ref (ρ.1 2), .ref (A 1), .int v2, .int v3, U_, U_, U_, U_] [] σ r σ1 := by
  intro G l hp hB hR
  refine R_iconst (v := 0) dX1_misfit_0 (by decide) ?_
  refine R_aload_n dX1_misfit_1 rfl ?_
  refine V_geta (o := 1) (q := 2) hB.1 dX1_misfit_2 fm_X1_35_3 ⟨by decide, by decide, rfl, rfl⟩ ?_
  refine R_iload_n dX1_misfit_5 rfl ?_
  have b1 := h.1
  replace h := h.2
  refine V_iald (o := 2) (x := σ.1 2 v2.toNatClampNeg) hB.1 dX1_misfit_6 ⟨by decide, rfl⟩ b1 rfl ?_
  refine R_aload_n dX1_misfit_7 rfl ?_
  refine V_geta (o := 1) (q := 5) hB.1 dX1_misfit_8 fm_X1_40_3 ⟨by decide, by decide, rfl, rfl⟩ ?_
  refine R_iload_n dX1_misfit_11 rfl ?_
  have b2 := h.1
  replace h := h.2
  refine V_iald (o := 5) (x := σ.1 5 v3.toNatClampNeg) hB.1 dX1_misfit_12 ⟨by decide, rfl⟩ b2 rfl ?_
  refine R_isub dX1_misfit_13 ?_
  refine R_mmax dX1_misfit_14 q1020 (Nat.le_of_ble_eq_true rfl) ?_
  refine S_istore (ls1 := [.ref (ρ.1 2), .ref (A 1), .int v2, .int v3, .int (sj_max 0 ((σ.1 2 v2.toNatClampNeg) - (σ.1 5 v3.toNatClampNeg))), U_, U_, U_]) dX1_misfit_17 (by decide) rfl rfl ?_
  refine R_iconst (v := 0) dX1_misfit_19 (by decide) ?_
  refine R_aload_n dX1_misfit_20 rfl ?_
  refine V_geta (o := 1) (q := 5) hB.1 dX1_misfit_21 fm_X1_40_3 ⟨by decide, by decide, rfl, rfl⟩ ?_
  refine R_iload_n dX1_misfit_24 rfl ?_
  refine V_iald (o := 5) (x := σ.1 5 v3.toNatClampNeg) hB.1 dX1_misfit_25 ⟨by decide, rfl⟩ b2 rfl ?_
  refine R_aload_n dX1_misfit_26 rfl ?_
  refine V_geta (o := 1) (q := 2) hB.1 dX1_misfit_27 fm_X1_35_3 ⟨by decide, by decide, rfl, rfl⟩ ?_
  refine R_iload_n dX1_misfit_30 rfl ?_
  refine V_iald (o := 2) (x := σ.1 2 v2.toNatClampNeg) hB.1 dX1_misfit_31 ⟨by decide, rfl⟩ b1 rfl ?_
  refine R_isub dX1_misfit_32 ?_
  refine R_mmax dX1_misfit_33 q1020 (Nat.le_of_ble_eq_true rfl) ?_
  refine S_istore (ls1 := [.ref (ρ.1 2), .ref (A 1), .int v2, .int v3, .int (sj_max 0 ((σ.1 2 v2.toNatClampNeg) - (σ.1 5 v3.toNatClampNeg))), .int (sj_max 0 ((σ.1 5 v3.toNatClampNeg) - (σ.1 2 v2.toNatClampNeg))), U_, U_]) dX1_misfit_36 (by decide) rfl rfl ?_
  refine R_iconst (v := 0) dX1_misfit_38 (by decide) ?_
  refine R_aload_n dX1_misfit_39 rfl ?_
  refine V_rget (v := .ref (ρ.1 3)) hB dX1_misfit_40 fm_X1_12_2 rfl ?_
  refine R_iload_n dX1_misfit_43 rfl ?_
  have b3 := h.1
  replace h := h.2
  refine V_lget (w := 0) (i := v2) hB (by decide) b3 dX1_misfit_44 cv_X1_49 (Nat.le_of_ble_eq_true rfl) ?_
  refine V_mcast (i := v2) hB b3 dX1_misfit_47 q1022 ?_
  refine V_mget (i := v2) (x := mnI ρ v2.toNatClampNeg 1) hB b3 dX1_misfit_50 fm_X1_55_9 (by decide) rfl ?_
  refine R_aload_n dX1_misfit_53 rfl ?_
  refine V_geta (o := 1) (q := 4) hB.1 dX1_misfit_54 fm_X1_58_3 ⟨by decide, by decide, rfl, rfl⟩ ?_
  refine R_iload_n dX1_misfit_57 rfl ?_
  refine V_iald (o := 4) (x := σ.1 4 v3.toNatClampNeg) hB.1 dX1_misfit_58 ⟨by decide, rfl⟩ b2 rfl ?_
  refine R_isub dX1_misfit_59 ?_
  refine R_mmax dX1_misfit_60 q1020 (Nat.le_of_ble_eq_true rfl) ?_
  refine S_istore (ls1 := [.ref (ρ.1 2), .ref (A 1), .int v2, .int v3, .int (sj_max 0 ((σ.1 2 v2.toNatClampNeg) - (σ.1 5 v3.toNatClampNeg))), .int (sj_max 0 ((σ.1 5 v3.toNatClampNeg) - (σ.1 2 v2.toNatClampNeg))), .int (sj_max 0 ((mnI ρ v2.toNatClampNeg 1) - (σ.1 4 v3.toNatClampNeg))), U_]) dX1_misfit_63 (by decide) rfl rfl ?_
  refine R_iconst (v := 0) dX1_misfit_65 (by decide) ?_
  refine R_aload_n dX1_misfit_66 rfl ?_
  refine V_geta (o := 1) (q := 4) hB.1 dX1_misfit_67 fm_X1_58_3 ⟨by decide, by decide, rfl, rfl⟩ ?_
  refine R_iload_n dX1_misfit_70 rfl ?_
  refine V_iald (o := 4) (x := σ.1 4 v3.toNatClampNeg) hB.1 dX1_misfit_71 ⟨by decide, rfl⟩ b2 rfl ?_
  refine R_aload_n dX1_misfit_72 rfl ?_
  refine V_rget (v := .ref (ρ.1 3)) hB dX1_misfit_73 fm_X1_12_2 rfl ?_
  refine R_iload_n dX1_misfit_76 rfl ?_
  refine V_lget (w := 0) (i := v2) hB (by decide) b3 dX1_misfit_77 cv_X1_49 (Nat.le_of_ble_eq_true rfl) ?_
  refine V_mcast (i := v2) hB b3 dX1_misfit_80 q1022 ?_
  refine V_mget (i := v2) (x := mnI ρ v2.toNatClampNeg 1) hB b3 dX1_misfit_83 fm_X1_55_9 (by decide) rfl ?_
  refine R_isub dX1_misfit_86 ?_
  refine R_mmax dX1_misfit_87 q1020 (Nat.le_of_ble_eq_true rfl) ?_
  refine S_istore (ls1 := [.ref (ρ.1 2), .ref (A 1), .int v2, .int v3, .int (sj_max 0 ((σ.1 2 v2.toNatClampNeg) - (σ.1 5 v3.toNatClampNeg))), .int (sj_max 0 ((σ.1 5 v3.toNatClampNeg) - (σ.1 2 v2.toNatClampNeg))), .int (sj_max 0 ((mnI ρ v2.toNatClampNeg 1) - (σ.1 4 v3.toNatClampNeg))), .int (sj_max 0 ((σ.1 4 v3.toNatClampNeg) - (mnI ρ v2.toNatClampNeg 1)))]) dX1_misfit_90 (by decide) rfl rfl ?_
  refine R_aload_n dX1_misfit_92 rfl ?_
  refine V_rget (v := (illV ρ)) hB dX1_misfit_93 fm_X1_60_2 rfl ?_
  refine V_ifill 128 dX1_misfit_96 (by decide) (fun q4 c5 => ?_) (fun c5 => ?_)
  · replace h := h.1 q4 c5
    refine R_aload_n dX1_misfit_128 rfl ?_
    refine V_rget (v := .ref (A 30)) hB dX1_misfit_129 fm_X1_31_2 rfl ?_
    refine R_iconst (v := 0) dX1_misfit_132 (by decide) ?_
    refine R_iload dX1_misfit_133 rfl ?_
    refine V_iast (o := 30) (σ9 := (upA σ.1 30 (upd (σ.1 30) 0 (sj_max 0 ((σ.1 2 v2.toNatClampNeg) - (σ.1 5 v3.toNatClampNeg)))), σ.2)) hB.1 dX1_misfit_135 ⟨by decide, rfl⟩ (by unfold vp_in; decide) rfl ?_
    refine R_aload_n dX1_misfit_136 rfl ?_
    refine V_rget (v := .ref (A 30)) hB dX1_misfit_137 fm_X1_31_2 rfl ?_
    refine R_iconst (v := 1) dX1_misfit_140 (by decide) ?_
    refine R_iload dX1_misfit_141 rfl ?_
    refine V_iast (o := 30) (σ9 := (upA σ.1 30 (upd (upd (σ.1 30) 0 (sj_max 0 ((σ.1 2 v2.toNatClampNeg) - (σ.1 5 v3.toNatClampNeg)))) 1 (sj_max 0 ((σ.1 5 v3.toNatClampNeg) - (σ.1 2 v2.toNatClampNeg)))), σ.2)) hB.1 dX1_misfit_143 ⟨by decide, rfl⟩ (by unfold vp_in; decide) (up8c σ.1 30 (upd (σ.1 30) 0 (sj_max 0 ((σ.1 2 v2.toNatClampNeg) - (σ.1 5 v3.toNatClampNeg)))) (upd (upd (σ.1 30) 0 (sj_max 0 ((σ.1 2 v2.toNatClampNeg) - (σ.1 5 v3.toNatClampNeg)))) 1 (sj_max 0 ((σ.1 5 v3.toNatClampNeg) - (σ.1 2 v2.toNatClampNeg)))) σ.2) ?_
    refine R_aload_n dX1_misfit_144 rfl ?_
    refine V_rget (v := .ref (A 30)) hB dX1_misfit_145 fm_X1_31_2 rfl ?_
    refine R_iconst (v := 2) dX1_misfit_148 (by decide) ?_
    refine R_iload dX1_misfit_149 rfl ?_
    refine V_iast (o := 30) (σ9 := (upA σ.1 30 (upd (upd (upd (σ.1 30) 0 (sj_max 0 ((σ.1 2 v2.toNatClampNeg) - (σ.1 5 v3.toNatClampNeg)))) 1 (sj_max 0 ((σ.1 5 v3.toNatClampNeg) - (σ.1 2 v2.toNatClampNeg)))) 2 (sj_max 0 ((mnI ρ v2.toNatClampNeg 1) - (σ.1 4 v3.toNatClampNeg)))), σ.2)) hB.1 dX1_misfit_151 ⟨by decide, rfl⟩ (by unfold vp_in; decide) (up8c σ.1 30 (upd (upd (σ.1 30) 0 (sj_max 0 ((σ.1 2 v2.toNatClampNeg) - (σ.1 5 v3.toNatClampNeg)))) 1 (sj_max 0 ((σ.1 5 v3.toNatClampNeg) - (σ.1 2 v2.toNatClampNeg)))) (upd (upd (upd (σ.1 30) 0 (sj_max 0 ((σ.1 2 v2.toNatClampNeg) - (σ.1 5 v3.toNatClampNeg)))) 1 (sj_max 0 ((σ.1 5 v3.toNatClampNeg) - (σ.1 2 v2.toNatClampNeg)))) 2 (sj_max 0 ((mnI ρ v2.toNatClampNeg 1) - (σ.1 4 v3.toNatClampNeg)))) σ.2) ?_
    refine R_aload_n dX1_misfit_152 rfl ?_
    refine V_rget (v := .ref (A 30)) hB dX1_misfit_153 fm_X1_31_2 rfl ?_
    refine R_iconst (v := 3) dX1_misfit_156 (by decide) ?_
    refine R_iload dX1_misfit_157 rfl ?_
    refine V_iast (o := 30) (σ9 := (upA σ.1 30 (upd (upd (upd (upd (σ.1 30) 0 (sj_max 0 ((σ.1 2 v2.toNatClampNeg) - (σ.1 5 v3.toNatClampNeg)))) 1 (sj_max 0 ((σ.1 5 v3.toNatClampNeg) - (σ.1 2 v2.toNatClampNeg)))) 2 (sj_max 0 ((mnI ρ v2.toNatClampNeg 1) - (σ.1 4 v3.toNatClampNeg)))) 3 (sj_max 0 ((σ.1 4 v3.toNatClampNeg) - (mnI ρ v2.toNatClampNeg 1)))), σ.2)) hB.1 dX1_misfit_159 ⟨by decide, rfl⟩ (by unfold vp_in; decide) (up8c σ.1 30 (upd (upd (upd (σ.1 30) 0 (sj_max 0 ((σ.1 2 v2.toNatClampNeg) - (σ.1 5 v3.toNatClampNeg)))) 1 (sj_max 0 ((σ.1 5 v3.toNatClampNeg) - (σ.1 2 v2.toNatClampNeg)))) 2 (sj_max 0 ((mnI ρ v2.toNatClampNeg 1) - (σ.1 4 v3.toNatClampNeg)))) (upd (upd (upd (upd (σ.1 30) 0 (sj_max 0 ((σ.1 2 v2.toNatClampNeg) - (σ.1 5 v3.toNatClampNeg)))) 1 (sj_max 0 ((σ.1 5 v3.toNatClampNeg) - (σ.1 2 v2.toNatClampNeg)))) 2 (sj_max 0 ((mnI ρ v2.toNatClampNeg 1) - (σ.1 4 v3.toNatClampNeg)))) 3 (sj_max 0 ((σ.1 4 v3.toNatClampNeg) - (mnI ρ v2.toNatClampNeg 1)))) σ.2) ?_
    refine R_aload_n dX1_misfit_160 rfl ?_
    refine V_rget (v := .ref (A 30)) hB dX1_misfit_161 fm_X1_31_2 rfl ?_
    refine R_iconst (v := 4) dX1_misfit_164 (by decide) ?_
    refine R_aload_n dX1_misfit_165 rfl ?_
    refine V_geta (o := 1) (q := 7) hB.1 dX1_misfit_166 fm_X1_64_3 ⟨by decide, by decide, rfl, rfl⟩ ?_
    refine R_iload_n dX1_misfit_169 rfl ?_
    refine V_iald (o := 7) (x := σ.1 7 v3.toNatClampNeg) hB.1 dX1_misfit_170 ⟨by decide, rfl⟩ b2 rfl ?_
    refine V_iast (o := 30) (σ9 := (upA σ.1 30 (upd (upd (upd (upd (upd (σ.1 30) 0 (sj_max 0 ((σ.1 2 v2.toNatClampNeg) - (σ.1 5 v3.toNatClampNeg)))) 1 (sj_max 0 ((σ.1 5 v3.toNatClampNeg) - (σ.1 2 v2.toNatClampNeg)))) 2 (sj_max 0 ((mnI ρ v2.toNatClampNeg 1) - (σ.1 4 v3.toNatClampNeg)))) 3 (sj_max 0 ((σ.1 4 v3.toNatClampNeg) - (mnI ρ v2.toNatClampNeg 1)))) 4 (σ.1 7 v3.toNatClampNeg)), σ.2)) hB.1 dX1_misfit_171 ⟨by decide, rfl⟩ (by unfold vp_in; decide) (up8c σ.1 30 (upd (upd (upd (upd (σ.1 30) 0 (sj_max 0 ((σ.1 2 v2.toNatClampNeg) - (σ.1 5 v3.toNatClampNeg)))) 1 (sj_max 0 ((σ.1 5 v3.toNatClampNeg) - (σ.1 2 v2.toNatClampNeg)))) 2 (sj_max 0 ((mnI ρ v2.toNatClampNeg 1) - (σ.1 4 v3.toNatClampNeg)))) 3 (sj_max 0 ((σ.1 4 v3.toNatClampNeg) - (mnI ρ v2.toNatClampNeg 1)))) (upd (upd (upd (upd (upd (σ.1 30) 0 (sj_max 0 ((σ.1 2 v2.toNatClampNeg) - (σ.1 5 v3.toNatClampNeg)))) 1 (sj_max 0 ((σ.1 5 v3.toNatClampNeg) - (σ.1 2 v2.toNatClampNeg)))) 2 (sj_max 0 ((mnI ρ v2.toNatClampNeg 1) - (σ.1 4 v3.toNatClampNeg)))) 3 (sj_max 0 ((σ.1 4 v3.toNatClampNeg) - (mnI ρ v2.toNatClampNeg 1)))) 4 (σ.1 7 v3.toNatClampNeg)) σ.2) ?_
    refine R_aload_n dX1_misfit_172 rfl ?_
    refine V_rget (v := .ref (A 30)) hB dX1_misfit_173 fm_X1_31_2 rfl ?_
    refine R_iconst (v := 5) dX1_misfit_176 (by decide) ?_
    refine R_aload_n dX1_misfit_177 rfl ?_
    refine V_get (o := 1) (x := σ.1 1 7) hB.1 dX1_misfit_178 fm_X1_70_3 ⟨by decide, by decide, rfl, rfl⟩ rfl ?_
    refine V_iast (o := 30) (σ9 := (upA σ.1 30 (upd (upd (upd (upd (upd (upd (σ.1 30) 0 (sj_max 0 ((σ.1 2 v2.toNatClampNeg) - (σ.1 5 v3.toNatClampNeg)))) 1 (sj_max 0 ((σ.1 5 v3.toNatClampNeg) - (σ.1 2 v2.toNatClampNeg)))) 2 (sj_max 0 ((mnI ρ v2.toNatClampNeg 1) - (σ.1 4 v3.toNatClampNeg)))) 3 (sj_max 0 ((σ.1 4 v3.toNatClampNeg) - (mnI ρ v2.toNatClampNeg 1)))) 4 (σ.1 7 v3.toNatClampNeg)) 5 (σ.1 1 7)), σ.2)) hB.1 dX1_misfit_181 ⟨by decide, rfl⟩ (by unfold vp_in; decide) (up8c σ.1 30 (upd (upd (upd (upd (upd (σ.1 30) 0 (sj_max 0 ((σ.1 2 v2.toNatClampNeg) - (σ.1 5 v3.toNatClampNeg)))) 1 (sj_max 0 ((σ.1 5 v3.toNatClampNeg) - (σ.1 2 v2.toNatClampNeg)))) 2 (sj_max 0 ((mnI ρ v2.toNatClampNeg 1) - (σ.1 4 v3.toNatClampNeg)))) 3 (sj_max 0 ((σ.1 4 v3.toNatClampNeg) - (mnI ρ v2.toNatClampNeg 1)))) 4 (σ.1 7 v3.toNatClampNeg)) (upd (upd (upd (upd (upd (upd (σ.1 30) 0 (sj_max 0 ((σ.1 2 v2.toNatClampNeg) - (σ.1 5 v3.toNatClampNeg)))) 1 (sj_max 0 ((σ.1 5 v3.toNatClampNeg) - (σ.1 2 v2.toNatClampNeg)))) 2 (sj_max 0 ((mnI ρ v2.toNatClampNeg 1) - (σ.1 4 v3.toNatClampNeg)))) 3 (sj_max 0 ((σ.1 4 v3.toNatClampNeg) - (mnI ρ v2.toNatClampNeg 1)))) 4 (σ.1 7 v3.toNatClampNeg)) 5 (σ.1 1 7)) σ.2) ?_
    refine R_aload_n dX1_misfit_182 rfl ?_
    refine V_rget (v := (illV ρ)) hB dX1_misfit_183 fm_X1_60_2 rfl ?_
    refine R_aload_n dX1_misfit_186 rfl ?_
    refine V_rget (v := .ref (A 30)) hB dX1_misfit_187 fm_X1_31_2 rfl ?_
    refine V_of (q := q4) hB h.1 dX1_misfit_190 ⟨cu_X1_73_X14_of_X14, cu_X1_73_X15_of_X15, cu_X1_73_X16_of_X16, cu_X1_73_X17_of_X17⟩ (Nat.le_of_ble_eq_true rfl) ?_
    replace h := h.2
    refine R_sipush (v := 999) dX1_misfit_193 (by decide) ?_
    refine V_callSN [.int ((runL (upd (upd (upd (upd (upd (upd (σ.1 30) 0 (sj_max 0 ((σ.1 2 v2.toNatClampNeg) - (σ.1 5 v3.toNatClampNeg)))) 1 (sj_max 0 ((σ.1 5 v3.toNatClampNeg) - (σ.1 2 v2.toNatClampNeg)))) 2 (sj_max 0 ((mnI ρ v2.toNatClampNeg 1) - (σ.1 4 v3.toNatClampNeg)))) 3 (sj_max 0 ((σ.1 4 v3.toNatClampNeg) - (mnI ρ v2.toNatClampNeg 1)))) 4 (σ.1 7 v3.toNatClampNeg)) 5 (σ.1 1 7)) q4.2.2 []).headD 0), .int 999] dX1_misfit_196 cs_X1_79 rfl rfl (Nat.le_of_ble_eq_true rfl) (s0t_within (d + 298) ((runL (upd (upd (upd (upd (upd (upd (σ.1 30) 0 (sj_max 0 ((σ.1 2 v2.toNatClampNeg) - (σ.1 5 v3.toNatClampNeg)))) 1 (sj_max 0 ((σ.1 5 v3.toNatClampNeg) - (σ.1 2 v2.toNatClampNeg)))) 2 (sj_max 0 ((mnI ρ v2.toNatClampNeg 1) - (σ.1 4 v3.toNatClampNeg)))) 3 (sj_max 0 ((σ.1 4 v3.toNatClampNeg) - (mnI ρ v2.toNatClampNeg 1)))) 4 (σ.1 7 v3.toNatClampNeg)) 5 (σ.1 1 7)) q4.2.2 []).headD 0) 999) ?_
    show RnH [] G l mX1_misfit (d + 301) (PV ρ E A r σ1) noX 199 [.ref (ρ.1 2), .ref (A 1), .int v2, .int v3, .int (sj_max 0 ((σ.1 2 v2.toNatClampNeg) - (σ.1 5 v3.toNatClampNeg))), .int (sj_max 0 ((σ.1 5 v3.toNatClampNeg) - (σ.1 2 v2.toNatClampNeg))), .int (sj_max 0 ((mnI ρ v2.toNatClampNeg 1) - (σ.1 4 v3.toNatClampNeg))), .int (sj_max 0 ((σ.1 4 v3.toNatClampNeg) - (mnI ρ v2.toNatClampNeg 1)))] [.int (s0_within ((runL (upd (upd (upd (upd (upd (upd (σ.1 30) 0 (sj_max 0 ((σ.1 2 v2.toNatClampNeg) - (σ.1 5 v3.toNatClampNeg)))) 1 (sj_max 0 ((σ.1 5 v3.toNatClampNeg) - (σ.1 2 v2.toNatClampNeg)))) 2 (sj_max 0 ((mnI ρ v2.toNatClampNeg 1) - (σ.1 4 v3.toNatClampNeg)))) 3 (sj_max 0 ((σ.1 4 v3.toNatClampNeg) - (mnI ρ v2.toNatClampNeg 1)))) 4 (σ.1 7 v3.toNatClampNeg)) 5 (σ.1 1 7)) q4.2.2 []).headD 0) 999)] (ov rgM A (upA σ.1 30 (upd (upd (upd (upd (upd (upd (σ.1 30) 0 (sj_max 0 ((σ.1 2 v2.toNatClampNeg) - (σ.1 5 v3.toNatClampNeg)))) 1 (sj_max 0 ((σ.1 5 v3.toNatClampNeg) - (σ.1 2 v2.toNatClampNeg)))) 2 (sj_max 0 ((mnI ρ v2.toNatClampNeg 1) - (σ.1 4 v3.toNatClampNeg)))) 3 (sj_max 0 ((σ.1 4 v3.toNatClampNeg) - (mnI ρ v2.toNatClampNeg 1)))) 4 (σ.1 7 v3.toNatClampNeg)) 5 (σ.1 1 7)), σ.2) hp) c k
    exact R_iret dX1_misfit_199 rfl rfl ⟨h.1.symm, hp, hB, by rw [h.2]⟩
  · replace h := h.2 c5
    refine R_sipush (v := 999) dX1_misfit_99 (by decide) ?_
    refine R_iload dX1_misfit_102 rfl ?_
    refine R_iconst (v := 3) dX1_misfit_104 (by decide) ?_
    refine R_imul dX1_misfit_105 ?_
    refine R_iload dX1_misfit_106 rfl ?_
    refine R_iadd dX1_misfit_108 ?_
    refine R_iload dX1_misfit_109 rfl ?_
    refine R_iconst (v := 2) dX1_misfit_111 (by decide) ?_
    refine R_imul dX1_misfit_112 ?_
    refine R_iadd dX1_misfit_113 ?_
    refine R_iload dX1_misfit_114 rfl ?_
    refine R_iadd dX1_misfit_116 ?_
    refine R_aload_n dX1_misfit_117 rfl ?_
    refine V_geta (o := 1) (q := 7) hB.1 dX1_misfit_118 fm_X1_64_3 ⟨by decide, by decide, rfl, rfl⟩ ?_
    refine R_iload_n dX1_misfit_121 rfl ?_
    refine V_iald (o := 7) (x := σ.1 7 v3.toNatClampNeg) hB.1 dX1_misfit_122 ⟨by decide, rfl⟩ b2 rfl ?_
    refine R_iadd dX1_misfit_123 ?_
    refine R_mmin dX1_misfit_124 q1023 (Nat.le_of_ble_eq_true rfl) ?_
    exact R_iret dX1_misfit_127 rfl rfl ⟨h.1.symm, hp, hB, by rw [h.2]⟩
theorem gc_X1_misfitt_0 {d : Nat} {v2 : Int32} {v3 : Int32} {c k : Nat} {ρ : Rho} {E : Hp → Prop} {A : Nat → Nat} {σ σ1 : Sg} {r : Option Value} (h : vp_in v2 6 ∧ (vp_in v3 6 ∧ (vp_in v2 (ρ.1 0) ∧ ((∀ q4, rIll ρ = some q4 → rIll ρ = some q4 ∧ (r = some (.int (s0_within ((runL (upd (upd (upd (upd (upd (upd (σ.1 30) 0 (sj_max 0 ((σ.1 9 v2.toNatClampNeg) - (σ.1 12 v3.toNatClampNeg)))) 1 (sj_max 0 ((σ.1 12 v3.toNatClampNeg) - (σ.1 9 v2.toNatClampNeg)))) 2 (sj_max 0 ((mnI ρ v2.toNatClampNeg 1) - (σ.1 11 v3.toNatClampNeg)))) 3 (sj_max 0 ((σ.1 11 v3.toNatClampNeg) - (mnI ρ v2.toNatClampNeg 1)))) 4 (σ.1 14 v3.toNatClampNeg)) 5 (σ.1 8 7)) q4.2.2 []).headD 0) 999)) ∧ σ1 = (upA σ.1 30 (upd (upd (upd (upd (upd (upd (σ.1 30) 0 (sj_max 0 ((σ.1 9 v2.toNatClampNeg) - (σ.1 12 v3.toNatClampNeg)))) 1 (sj_max 0 ((σ.1 12 v3.toNatClampNeg) - (σ.1 9 v2.toNatClampNeg)))) 2 (sj_max 0 ((mnI ρ v2.toNatClampNeg 1) - (σ.1 11 v3.toNatClampNeg)))) 3 (sj_max 0 ((σ.1 11 v3.toNatClampNeg) - (mnI ρ v2.toNatClampNeg 1)))) 4 (σ.1 14 v3.toNatClampNeg)) 5 (σ.1 8 7)), σ.2))) ∧ (rIll ρ = none → r = some (.int (sj_min 999 ((((((sj_max 0 ((σ.1 9 v2.toNatClampNeg) - (σ.1 12 v3.toNatClampNeg))) * 3) + (sj_max 0 ((σ.1 12 v3.toNatClampNeg) - (σ.1 9 v2.toNatClampNeg)))) + ((sj_max 0 ((mnI ρ v2.toNatClampNeg 1) - (σ.1 11 v3.toNatClampNeg))) * 2)) + (sj_max 0 ((σ.1 11 v3.toNatClampNeg) - (mnI ρ v2.toNatClampNeg 1)))) + (σ.1 14 v3.toNatClampNeg)))) ∧ σ1 = σ))))) : Rv ρ E A mX1_misfit (d + 301) c k 0 [.ref (ρ.1 2), .ref (A 8), .int v2, .int v3, U_, U_, U_, U_] [] σ r σ1 := by
  intro G l hp hB hR
  refine R_iconst (v := 0) dX1_misfit_0 (by decide) ?_
  refine R_aload_n dX1_misfit_1 rfl ?_
  refine V_geta (o := 8) (q := 9) hB.1 dX1_misfit_2 fm_X1_35_3 ⟨by decide, by decide, rfl, rfl⟩ ?_
  refine R_iload_n dX1_misfit_5 rfl ?_
  have b1 := h.1
  replace h := h.2
  refine V_iald (o := 9) (x := σ.1 9 v2.toNatClampNeg) hB.1 dX1_misfit_6 ⟨by decide, rfl⟩ b1 rfl ?_
  refine R_aload_n dX1_misfit_7 rfl ?_
  refine V_geta (o := 8) (q := 12) hB.1 dX1_misfit_8 fm_X1_40_3 ⟨by decide, by decide, rfl, rfl⟩ ?_
  refine R_iload_n dX1_misfit_11 rfl ?_
  have b2 := h.1
  replace h := h.2
  refine V_iald (o := 12) (x := σ.1 12 v3.toNatClampNeg) hB.1 dX1_misfit_12 ⟨by decide, rfl⟩ b2 rfl ?_
  refine R_isub dX1_misfit_13 ?_
  refine R_mmax dX1_misfit_14 q1020 (Nat.le_of_ble_eq_true rfl) ?_
  refine S_istore (ls1 := [.ref (ρ.1 2), .ref (A 8), .int v2, .int v3, .int (sj_max 0 ((σ.1 9 v2.toNatClampNeg) - (σ.1 12 v3.toNatClampNeg))), U_, U_, U_]) dX1_misfit_17 (by decide) rfl rfl ?_
  refine R_iconst (v := 0) dX1_misfit_19 (by decide) ?_
  refine R_aload_n dX1_misfit_20 rfl ?_
  refine V_geta (o := 8) (q := 12) hB.1 dX1_misfit_21 fm_X1_40_3 ⟨by decide, by decide, rfl, rfl⟩ ?_
  refine R_iload_n dX1_misfit_24 rfl ?_
  refine V_iald (o := 12) (x := σ.1 12 v3.toNatClampNeg) hB.1 dX1_misfit_25 ⟨by decide, rfl⟩ b2 rfl ?_
  refine R_aload_n dX1_misfit_26 rfl ?_
  refine V_geta (o := 8) (q := 9) hB.1 dX1_misfit_27 fm_X1_35_3 ⟨by decide, by decide, rfl, rfl⟩ ?_
  refine R_iload_n dX1_misfit_30 rfl ?_
  refine V_iald (o := 9) (x := σ.1 9 v2.toNatClampNeg) hB.1 dX1_misfit_31 ⟨by decide, rfl⟩ b1 rfl ?_
  refine R_isub dX1_misfit_32 ?_
  refine R_mmax dX1_misfit_33 q1020 (Nat.le_of_ble_eq_true rfl) ?_
  refine S_istore (ls1 := [.ref (ρ.1 2), .ref (A 8), .int v2, .int v3, .int (sj_max 0 ((σ.1 9 v2.toNatClampNeg) - (σ.1 12 v3.toNatClampNeg))), .int (sj_max 0 ((σ.1 12 v3.toNatClampNeg) - (σ.1 9 v2.toNatClampNeg))), U_, U_]) dX1_misfit_36 (by decide) rfl rfl ?_
  refine R_iconst (v := 0) dX1_misfit_38 (by decide) ?_
  refine R_aload_n dX1_misfit_39 rfl ?_
  refine V_rget (v := .ref (ρ.1 3)) hB dX1_misfit_40 fm_X1_12_2 rfl ?_
  refine R_iload_n dX1_misfit_43 rfl ?_
  have b3 := h.1
  replace h := h.2
  refine V_lget (w := 0) (i := v2) hB (by decide) b3 dX1_misfit_44 cv_X1_49 (Nat.le_of_ble_eq_true rfl) ?_
  refine V_mcast (i := v2) hB b3 dX1_misfit_47 q1022 ?_
  refine V_mget (i := v2) (x := mnI ρ v2.toNatClampNeg 1) hB b3 dX1_misfit_50 fm_X1_55_9 (by decide) rfl ?_
  refine R_aload_n dX1_misfit_53 rfl ?_
  refine V_geta (o := 8) (q := 11) hB.1 dX1_misfit_54 fm_X1_58_3 ⟨by decide, by decide, rfl, rfl⟩ ?_
  refine R_iload_n dX1_misfit_57 rfl ?_
  refine V_iald (o := 11) (x := σ.1 11 v3.toNatClampNeg) hB.1 dX1_misfit_58 ⟨by decide, rfl⟩ b2 rfl ?_
  refine R_isub dX1_misfit_59 ?_
  refine R_mmax dX1_misfit_60 q1020 (Nat.le_of_ble_eq_true rfl) ?_
  refine S_istore (ls1 := [.ref (ρ.1 2), .ref (A 8), .int v2, .int v3, .int (sj_max 0 ((σ.1 9 v2.toNatClampNeg) - (σ.1 12 v3.toNatClampNeg))), .int (sj_max 0 ((σ.1 12 v3.toNatClampNeg) - (σ.1 9 v2.toNatClampNeg))), .int (sj_max 0 ((mnI ρ v2.toNatClampNeg 1) - (σ.1 11 v3.toNatClampNeg))), U_]) dX1_misfit_63 (by decide) rfl rfl ?_
  refine R_iconst (v := 0) dX1_misfit_65 (by decide) ?_
  refine R_aload_n dX1_misfit_66 rfl ?_
  refine V_geta (o := 8) (q := 11) hB.1 dX1_misfit_67 fm_X1_58_3 ⟨by decide, by decide, rfl, rfl⟩ ?_
  refine R_iload_n dX1_misfit_70 rfl ?_
  refine V_iald (o := 11) (x := σ.1 11 v3.toNatClampNeg) hB.1 dX1_misfit_71 ⟨by decide, rfl⟩ b2 rfl ?_
  refine R_aload_n dX1_misfit_72 rfl ?_
  refine V_rget (v := .ref (ρ.1 3)) hB dX1_misfit_73 fm_X1_12_2 rfl ?_
  refine R_iload_n dX1_misfit_76 rfl ?_
  refine V_lget (w := 0) (i := v2) hB (by decide) b3 dX1_misfit_77 cv_X1_49 (Nat.le_of_ble_eq_true rfl) ?_
  refine V_mcast (i := v2) hB b3 dX1_misfit_80 q1022 ?_
  refine V_mget (i := v2) (x := mnI ρ v2.toNatClampNeg 1) hB b3 dX1_misfit_83 fm_X1_55_9 (by decide) rfl ?_
  refine R_isub dX1_misfit_86 ?_
  refine R_mmax dX1_misfit_87 q1020 (Nat.le_of_ble_eq_true rfl) ?_
  refine S_istore (ls1 := [.ref (ρ.1 2), .ref (A 8), .int v2, .int v3, .int (sj_max 0 ((σ.1 9 v2.toNatClampNeg) - (σ.1 12 v3.toNatClampNeg))), .int (sj_max 0 ((σ.1 12 v3.toNatClampNeg) - (σ.1 9 v2.toNatClampNeg))), .int (sj_max 0 ((mnI ρ v2.toNatClampNeg 1) - (σ.1 11 v3.toNatClampNeg))), .int (sj_max 0 ((σ.1 11 v3.toNatClampNeg) - (mnI ρ v2.toNatClampNeg 1)))]) dX1_misfit_90 (by decide) rfl rfl ?_
  refine R_aload_n dX1_misfit_92 rfl ?_
  refine V_rget (v := (illV ρ)) hB dX1_misfit_93 fm_X1_60_2 rfl ?_
  refine V_ifill 128 dX1_misfit_96 (by decide) (fun q4 c5 => ?_) (fun c5 => ?_)
  · replace h := h.1 q4 c5
    refine R_aload_n dX1_misfit_128 rfl ?_
    refine V_rget (v := .ref (A 30)) hB dX1_misfit_129 fm_X1_31_2 rfl ?_
    refine R_iconst (v := 0) dX1_misfit_132 (by decide) ?_
    refine R_iload dX1_misfit_133 rfl ?_
    refine V_iast (o := 30) (σ9 := (upA σ.1 30 (upd (σ.1 30) 0 (sj_max 0 ((σ.1 9 v2.toNatClampNeg) - (σ.1 12 v3.toNatClampNeg)))), σ.2)) hB.1 dX1_misfit_135 ⟨by decide, rfl⟩ (by unfold vp_in; decide) rfl ?_
    refine R_aload_n dX1_misfit_136 rfl ?_
    refine V_rget (v := .ref (A 30)) hB dX1_misfit_137 fm_X1_31_2 rfl ?_
    refine R_iconst (v := 1) dX1_misfit_140 (by decide) ?_
    refine R_iload dX1_misfit_141 rfl ?_
    refine V_iast (o := 30) (σ9 := (upA σ.1 30 (upd (upd (σ.1 30) 0 (sj_max 0 ((σ.1 9 v2.toNatClampNeg) - (σ.1 12 v3.toNatClampNeg)))) 1 (sj_max 0 ((σ.1 12 v3.toNatClampNeg) - (σ.1 9 v2.toNatClampNeg)))), σ.2)) hB.1 dX1_misfit_143 ⟨by decide, rfl⟩ (by unfold vp_in; decide) (up8c σ.1 30 (upd (σ.1 30) 0 (sj_max 0 ((σ.1 9 v2.toNatClampNeg) - (σ.1 12 v3.toNatClampNeg)))) (upd (upd (σ.1 30) 0 (sj_max 0 ((σ.1 9 v2.toNatClampNeg) - (σ.1 12 v3.toNatClampNeg)))) 1 (sj_max 0 ((σ.1 12 v3.toNatClampNeg) - (σ.1 9 v2.toNatClampNeg)))) σ.2) ?_
    refine R_aload_n dX1_misfit_144 rfl ?_
    refine V_rget (v := .ref (A 30)) hB dX1_misfit_145 fm_X1_31_2 rfl ?_
    refine R_iconst (v := 2) dX1_misfit_148 (by decide) ?_
    refine R_iload dX1_misfit_149 rfl ?_
    refine V_iast (o := 30) (σ9 := (upA σ.1 30 (upd (upd (upd (σ.1 30) 0 (sj_max 0 ((σ.1 9 v2.toNatClampNeg) - (σ.1 12 v3.toNatClampNeg)))) 1 (sj_max 0 ((σ.1 12 v3.toNatClampNeg) - (σ.1 9 v2.toNatClampNeg)))) 2 (sj_max 0 ((mnI ρ v2.toNatClampNeg 1) - (σ.1 11 v3.toNatClampNeg)))), σ.2)) hB.1 dX1_misfit_151 ⟨by decide, rfl⟩ (by unfold vp_in; decide) (up8c σ.1 30 (upd (upd (σ.1 30) 0 (sj_max 0 ((σ.1 9 v2.toNatClampNeg) - (σ.1 12 v3.toNatClampNeg)))) 1 (sj_max 0 ((σ.1 12 v3.toNatClampNeg) - (σ.1 9 v2.toNatClampNeg)))) (upd (upd (upd (σ.1 30) 0 (sj_max 0 ((σ.1 9 v2.toNatClampNeg) - (σ.1 12 v3.toNatClampNeg)))) 1 (sj_max 0 ((σ.1 12 v3.toNatClampNeg) - (σ.1 9 v2.toNatClampNeg)))) 2 (sj_max 0 ((mnI ρ v2.toNatClampNeg 1) - (σ.1 11 v3.toNatClampNeg)))) σ.2) ?_
    refine R_aload_n dX1_misfit_152 rfl ?_
    refine V_rget (v := .ref (A 30)) hB dX1_misfit_153 fm_X1_31_2 rfl ?_
    refine R_iconst (v := 3) dX1_misfit_156 (by decide) ?_
    refine R_iload dX1_misfit_157 rfl ?_
    refine V_iast (o := 30) (σ9 := (upA σ.1 30 (upd (upd (upd (upd (σ.1 30) 0 (sj_max 0 ((σ.1 9 v2.toNatClampNeg) - (σ.1 12 v3.toNatClampNeg)))) 1 (sj_max 0 ((σ.1 12 v3.toNatClampNeg) - (σ.1 9 v2.toNatClampNeg)))) 2 (sj_max 0 ((mnI ρ v2.toNatClampNeg 1) - (σ.1 11 v3.toNatClampNeg)))) 3 (sj_max 0 ((σ.1 11 v3.toNatClampNeg) - (mnI ρ v2.toNatClampNeg 1)))), σ.2)) hB.1 dX1_misfit_159 ⟨by decide, rfl⟩ (by unfold vp_in; decide) (up8c σ.1 30 (upd (upd (upd (σ.1 30) 0 (sj_max 0 ((σ.1 9 v2.toNatClampNeg) - (σ.1 12 v3.toNatClampNeg)))) 1 (sj_max 0 ((σ.1 12 v3.toNatClampNeg) - (σ.1 9 v2.toNatClampNeg)))) 2 (sj_max 0 ((mnI ρ v2.toNatClampNeg 1) - (σ.1 11 v3.toNatClampNeg)))) (upd (upd (upd (upd (σ.1 30) 0 (sj_max 0 ((σ.1 9 v2.toNatClampNeg) - (σ.1 12 v3.toNatClampNeg)))) 1 (sj_max 0 ((σ.1 12 v3.toNatClampNeg) - (σ.1 9 v2.toNatClampNeg)))) 2 (sj_max 0 ((mnI ρ v2.toNatClampNeg 1) - (σ.1 11 v3.toNatClampNeg)))) 3 (sj_max 0 ((σ.1 11 v3.toNatClampNeg) - (mnI ρ v2.toNatClampNeg 1)))) σ.2) ?_
    refine R_aload_n dX1_misfit_160 rfl ?_
    refine V_rget (v := .ref (A 30)) hB dX1_misfit_161 fm_X1_31_2 rfl ?_
    refine R_iconst (v := 4) dX1_misfit_164 (by decide) ?_
    refine R_aload_n dX1_misfit_165 rfl ?_
    refine V_geta (o := 8) (q := 14) hB.1 dX1_misfit_166 fm_X1_64_3 ⟨by decide, by decide, rfl, rfl⟩ ?_
    refine R_iload_n dX1_misfit_169 rfl ?_
    refine V_iald (o := 14) (x := σ.1 14 v3.toNatClampNeg) hB.1 dX1_misfit_170 ⟨by decide, rfl⟩ b2 rfl ?_
    refine V_iast (o := 30) (σ9 := (upA σ.1 30 (upd (upd (upd (upd (upd (σ.1 30) 0 (sj_max 0 ((σ.1 9 v2.toNatClampNeg) - (σ.1 12 v3.toNatClampNeg)))) 1 (sj_max 0 ((σ.1 12 v3.toNatClampNeg) - (σ.1 9 v2.toNatClampNeg)))) 2 (sj_max 0 ((mnI ρ v2.toNatClampNeg 1) - (σ.1 11 v3.toNatClampNeg)))) 3 (sj_max 0 ((σ.1 11 v3.toNatClampNeg) - (mnI ρ v2.toNatClampNeg 1)))) 4 (σ.1 14 v3.toNatClampNeg)), σ.2)) hB.1 dX1_misfit_171 ⟨by decide, rfl⟩ (by unfold vp_in; decide) (up8c σ.1 30 (upd (upd (upd (upd (σ.1 30) 0 (sj_max 0 ((σ.1 9 v2.toNatClampNeg) - (σ.1 12 v3.toNatClampNeg)))) 1 (sj_max 0 ((σ.1 12 v3.toNatClampNeg) - (σ.1 9 v2.toNatClampNeg)))) 2 (sj_max 0 ((mnI ρ v2.toNatClampNeg 1) - (σ.1 11 v3.toNatClampNeg)))) 3 (sj_max 0 ((σ.1 11 v3.toNatClampNeg) - (mnI ρ v2.toNatClampNeg 1)))) (upd (upd (upd (upd (upd (σ.1 30) 0 (sj_max 0 ((σ.1 9 v2.toNatClampNeg) - (σ.1 12 v3.toNatClampNeg)))) 1 (sj_max 0 ((σ.1 12 v3.toNatClampNeg) - (σ.1 9 v2.toNatClampNeg)))) 2 (sj_max 0 ((mnI ρ v2.toNatClampNeg 1) - (σ.1 11 v3.toNatClampNeg)))) 3 (sj_max 0 ((σ.1 11 v3.toNatClampNeg) - (mnI ρ v2.toNatClampNeg 1)))) 4 (σ.1 14 v3.toNatClampNeg)) σ.2) ?_
    refine R_aload_n dX1_misfit_172 rfl ?_
    refine V_rget (v := .ref (A 30)) hB dX1_misfit_173 fm_X1_31_2 rfl ?_
    refine R_iconst (v := 5) dX1_misfit_176 (by decide) ?_
    refine R_aload_n dX1_misfit_177 rfl ?_
    refine V_get (o := 8) (x := σ.1 8 7) hB.1 dX1_misfit_178 fm_X1_70_3 ⟨by decide, by decide, rfl, rfl⟩ rfl ?_
    refine V_iast (o := 30) (σ9 := (upA σ.1 30 (upd (upd (upd (upd (upd (upd (σ.1 30) 0 (sj_max 0 ((σ.1 9 v2.toNatClampNeg) - (σ.1 12 v3.toNatClampNeg)))) 1 (sj_max 0 ((σ.1 12 v3.toNatClampNeg) - (σ.1 9 v2.toNatClampNeg)))) 2 (sj_max 0 ((mnI ρ v2.toNatClampNeg 1) - (σ.1 11 v3.toNatClampNeg)))) 3 (sj_max 0 ((σ.1 11 v3.toNatClampNeg) - (mnI ρ v2.toNatClampNeg 1)))) 4 (σ.1 14 v3.toNatClampNeg)) 5 (σ.1 8 7)), σ.2)) hB.1 dX1_misfit_181 ⟨by decide, rfl⟩ (by unfold vp_in; decide) (up8c σ.1 30 (upd (upd (upd (upd (upd (σ.1 30) 0 (sj_max 0 ((σ.1 9 v2.toNatClampNeg) - (σ.1 12 v3.toNatClampNeg)))) 1 (sj_max 0 ((σ.1 12 v3.toNatClampNeg) - (σ.1 9 v2.toNatClampNeg)))) 2 (sj_max 0 ((mnI ρ v2.toNatClampNeg 1) - (σ.1 11 v3.toNatClampNeg)))) 3 (sj_max 0 ((σ.1 11 v3.toNatClampNeg) - (mnI ρ v2.toNatClampNeg 1)))) 4 (σ.1 14 v3.toNatClampNeg)) (upd (upd (upd (upd (upd (upd (σ.1 30) 0 (sj_max 0 ((σ.1 9 v2.toNatClampNeg) - (σ.1 12 v3.toNatClampNeg)))) 1 (sj_max 0 ((σ.1 12 v3.toNatClampNeg) - (σ.1 9 v2.toNatClampNeg)))) 2 (sj_max 0 ((mnI ρ v2.toNatClampNeg 1) - (σ.1 11 v3.toNatClampNeg)))) 3 (sj_max 0 ((σ.1 11 v3.toNatClampNeg) - (mnI ρ v2.toNatClampNeg 1)))) 4 (σ.1 14 v3.toNatClampNeg)) 5 (σ.1 8 7)) σ.2) ?_
    refine R_aload_n dX1_misfit_182 rfl ?_
    refine V_rget (v := (illV ρ)) hB dX1_misfit_183 fm_X1_60_2 rfl ?_
    refine R_aload_n dX1_misfit_186 rfl ?_
    refine V_rget (v := .ref (A 30)) hB dX1_misfit_187 fm_X1_31_2 rfl ?_
    refine V_of (q := q4) hB h.1 dX1_misfit_190 ⟨cu_X1_73_X14_of_X14, cu_X1_73_X15_of_X15, cu_X1_73_X16_of_X16, cu_X1_73_X17_of_X17⟩ (Nat.le_of_ble_eq_true rfl) ?_
    replace h := h.2
    refine R_sipush (v := 999) dX1_misfit_193 (by decide) ?_
    refine V_callSN [.int ((runL (upd (upd (upd (upd (upd (upd (σ.1 30) 0 (sj_max 0 ((σ.1 9 v2.toNatClampNeg) - (σ.1 12 v3.toNatClampNeg)))) 1 (sj_max 0 ((σ.1 12 v3.toNatClampNeg) - (σ.1 9 v2.toNatClampNeg)))) 2 (sj_max 0 ((mnI ρ v2.toNatClampNeg 1) - (σ.1 11 v3.toNatClampNeg)))) 3 (sj_max 0 ((σ.1 11 v3.toNatClampNeg) - (mnI ρ v2.toNatClampNeg 1)))) 4 (σ.1 14 v3.toNatClampNeg)) 5 (σ.1 8 7)) q4.2.2 []).headD 0), .int 999] dX1_misfit_196 cs_X1_79 rfl rfl (Nat.le_of_ble_eq_true rfl) (s0t_within (d + 298) ((runL (upd (upd (upd (upd (upd (upd (σ.1 30) 0 (sj_max 0 ((σ.1 9 v2.toNatClampNeg) - (σ.1 12 v3.toNatClampNeg)))) 1 (sj_max 0 ((σ.1 12 v3.toNatClampNeg) - (σ.1 9 v2.toNatClampNeg)))) 2 (sj_max 0 ((mnI ρ v2.toNatClampNeg 1) - (σ.1 11 v3.toNatClampNeg)))) 3 (sj_max 0 ((σ.1 11 v3.toNatClampNeg) - (mnI ρ v2.toNatClampNeg 1)))) 4 (σ.1 14 v3.toNatClampNeg)) 5 (σ.1 8 7)) q4.2.2 []).headD 0) 999) ?_
    show RnH [] G l mX1_misfit (d + 301) (PV ρ E A r σ1) noX 199 [.ref (ρ.1 2), .ref (A 8), .int v2, .int v3, .int (sj_max 0 ((σ.1 9 v2.toNatClampNeg) - (σ.1 12 v3.toNatClampNeg))), .int (sj_max 0 ((σ.1 12 v3.toNatClampNeg) - (σ.1 9 v2.toNatClampNeg))), .int (sj_max 0 ((mnI ρ v2.toNatClampNeg 1) - (σ.1 11 v3.toNatClampNeg))), .int (sj_max 0 ((σ.1 11 v3.toNatClampNeg) - (mnI ρ v2.toNatClampNeg 1)))] [.int (s0_within ((runL (upd (upd (upd (upd (upd (upd (σ.1 30) 0 (sj_max 0 ((σ.1 9 v2.toNatClampNeg) - (σ.1 12 v3.toNatClampNeg)))) 1 (sj_max 0 ((σ.1 12 v3.toNatClampNeg) - (σ.1 9 v2.toNatClampNeg)))) 2 (sj_max 0 ((mnI ρ v2.toNatClampNeg 1) - (σ.1 11 v3.toNatClampNeg)))) 3 (sj_max 0 ((σ.1 11 v3.toNatClampNeg) - (mnI ρ v2.toNatClampNeg 1)))) 4 (σ.1 14 v3.toNatClampNeg)) 5 (σ.1 8 7)) q4.2.2 []).headD 0) 999)] (ov rgM A (upA σ.1 30 (upd (upd (upd (upd (upd (upd (σ.1 30) 0 (sj_max 0 ((σ.1 9 v2.toNatClampNeg) - (σ.1 12 v3.toNatClampNeg)))) 1 (sj_max 0 ((σ.1 12 v3.toNatClampNeg) - (σ.1 9 v2.toNatClampNeg)))) 2 (sj_max 0 ((mnI ρ v2.toNatClampNeg 1) - (σ.1 11 v3.toNatClampNeg)))) 3 (sj_max 0 ((σ.1 11 v3.toNatClampNeg) - (mnI ρ v2.toNatClampNeg 1)))) 4 (σ.1 14 v3.toNatClampNeg)) 5 (σ.1 8 7)), σ.2) hp) c k
    exact R_iret dX1_misfit_199 rfl rfl ⟨h.1.symm, hp, hB, by rw [h.2]⟩
  · replace h := h.2 c5
    refine R_sipush (v := 999) dX1_misfit_99 (by decide) ?_
    refine R_iload dX1_misfit_102 rfl ?_
    refine R_iconst (v := 3) dX1_misfit_104 (by decide) ?_
    refine R_imul dX1_misfit_105 ?_
    refine R_iload dX1_misfit_106 rfl ?_
    refine R_iadd dX1_misfit_108 ?_
    refine R_iload dX1_misfit_109 rfl ?_
    refine R_iconst (v := 2) dX1_misfit_111 (by decide) ?_
    refine R_imul dX1_misfit_112 ?_
    refine R_iadd dX1_misfit_113 ?_
    refine R_iload dX1_misfit_114 rfl ?_
    refine R_iadd dX1_misfit_116 ?_
    refine R_aload_n dX1_misfit_117 rfl ?_
    refine V_geta (o := 8) (q := 14) hB.1 dX1_misfit_118 fm_X1_64_3 ⟨by decide, by decide, rfl, rfl⟩ ?_
    refine R_iload_n dX1_misfit_121 rfl ?_
    refine V_iald (o := 14) (x := σ.1 14 v3.toNatClampNeg) hB.1 dX1_misfit_122 ⟨by decide, rfl⟩ b2 rfl ?_
    refine R_iadd dX1_misfit_123 ?_
    refine R_mmin dX1_misfit_124 q1023 (Nat.le_of_ble_eq_true rfl) ?_
    exact R_iret dX1_misfit_127 rfl rfl ⟨h.1.symm, hp, hB, by rw [h.2]⟩
