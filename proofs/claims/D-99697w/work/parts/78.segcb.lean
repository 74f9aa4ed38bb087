/-! printed: segments of the component's methods -/
set_option maxRecDepth 100000
theorem gc_X0_ease_0 {d : Nat} {c k : Nat} {ρ : Rho} {E : Hp → Prop} {A : Nat → Nat} {σ σ1 : Sg} {r : Option Value} (h : Rv ρ E A mX0_ease (d + 302) c k 4 [.ref (A 0), .int 0, .int 0] [] σ r σ1) : Rv ρ E A mX0_ease (d + 302) c k 0 [.ref (A 0), U_, U_] [] σ r σ1 := by
  intro G l hp hB hR
  refine R_iconst (v := 0) dX0_ease_0 (by decide) ?_
  refine S_istore_n (ls1 := [.ref (A 0), .int 0, U_]) dX0_ease_1 (by decide) rfl rfl ?_
  refine R_iconst (v := 0) dX0_ease_2 (by decide) ?_
  refine S_istore_n (ls1 := [.ref (A 0), .int 0, .int 0]) dX0_ease_3 (by decide) rfl rfl ?_
  exact h G l hp hB hR
theorem gc_X0_ease_4 {d : Nat} {v1 : Int32} {v2 : Int32} {c k : Nat} {ρ : Rho} {E : Hp → Prop} {A : Nat → Nat} {σ σ1 : Sg} {r : Option Value} (h : ∃ (r3 : Int32) (σ_1 : Sg), Tv ρ E A mX0_men (d + 301) 0 0 [.ref (A 0)] σ (some (.int r3)) σ_1 ∧ (((r3 ≤ v2) → r = some (.int v1) ∧ σ1 = σ_1) ∧ ((¬ r3 ≤ v2) → vp_in v2 6 ∧ ((((σ_1.1 3 v2.toNatClampNeg) < 0) → Rv ρ E A mX0_ease (d + 302) c k 4 [.ref (A 0), .int v1, .int (v2 + 1)] [] σ_1 r σ1) ∧ ((¬ (σ_1.1 3 v2.toNatClampNeg) < 0) → ∃ (r9 : Int32) (σ_7 : Sg), Tv ρ E A mX1_misfit (d + 301) 0 0 [.ref (ρ.1 2), .ref (A 1), .int v2, .int (σ_1.1 3 v2.toNatClampNeg)] σ_1 (some (.int r9)) σ_7 ∧ (Rv ρ E A mX0_ease (d + 302) c k 4 [.ref (A 0), .int (sj_max v1 r9), .int (v2 + 1)] [] σ_7 r σ1)))))) : Rv ρ E A mX0_ease (d + 302) c k 4 [.ref (A 0), .int v1, .int v2] [] σ r σ1 := by
  intro G l hp hB hR
  refine R_iload_n dX0_ease_4 rfl ?_
  refine R_aload_n dX0_ease_5 rfl ?_
  obtain ⟨r3, σ_1, e2, h⟩ := h
  refine V_call (o := 0) [] hB hR dX0_ease_6 cv_X0_143 rfl rfl (Nat.le_of_ble_eq_true rfl) ⟨by decide, rfl⟩ rfl e2 (Nat.zero_le _) (Nat.zero_le _) (fun hp hB => ?_)
  show RnH [] G l mX0_ease (d + 302) (PV ρ E A r σ1) noX 9 [.ref (A 0), .int v1, .int v2] [.int r3, .int v2] (ov rgM A σ_1 hp) c k
  have hR : σ_1.2.2 0 0 = .ref (ρ.1 2) := by rw [e2.1]; exact hR
  refine R_icmp_ge 56 dX0_ease_9 (by decide) (fun c4 => ?_) (fun c4 => ?_)
  · replace h := h.1 c4
    refine R_iload_n dX0_ease_56 rfl ?_
    exact R_iret dX0_ease_57 rfl rfl ⟨h.1.symm, hp, hB, by rw [h.2]⟩
  · replace h := h.2 c4
    refine R_aload_n dX0_ease_12 rfl ?_
    refine V_geta (o := 0) (q := 1) hB.1 dX0_ease_13 fm_X0_28_1 ⟨by decide, by decide, rfl, rfl⟩ ?_
    refine V_geta (o := 1) (q := 3) hB.1 dX0_ease_16 fm_X0_198_3 ⟨by decide, by decide, rfl, rfl⟩ ?_
    refine R_iload_n dX0_ease_19 rfl ?_
    have b5 := h.1
    replace h := h.2
    refine V_iald (o := 3) (x := σ_1.1 3 v2.toNatClampNeg) hB.1 dX0_ease_20 ⟨by decide, rfl⟩ b5 rfl ?_
    refine R_if_lt 50 dX0_ease_21 (by decide) (fun c6 => ?_) (fun c6 => ?_)
    · replace h := h.1 c6
      refine S_iinc (v := v2 + 1) (ls1 := [.ref (A 0), .int v1, .int (v2 + 1)]) dX0_ease_50 rfl rfl (by decide) rfl rfl ?_
      refine R_goto 4 dX0_ease_53 (by decide) ?_
      exact h G l hp hB hR
    · replace h := h.2 c6
      refine R_iload_n dX0_ease_24 rfl ?_
      refine R_aload_n dX0_ease_25 rfl ?_
      refine V_getr (o := 0) (v := .ref (ρ.1 2)) hB.1 dX0_ease_26 fm_X0_19_1 ⟨by decide, by decide, rfl, rfl⟩ hR ?_
      refine R_aload_n dX0_ease_29 rfl ?_
      refine V_geta (o := 0) (q := 1) hB.1 dX0_ease_30 fm_X0_28_1 ⟨by decide, by decide, rfl, rfl⟩ ?_
      refine R_iload_n dX0_ease_33 rfl ?_
      refine R_aload_n dX0_ease_34 rfl ?_
      refine V_geta (o := 0) (q := 1) hB.1 dX0_ease_35 fm_X0_28_1 ⟨by decide, by decide, rfl, rfl⟩ ?_
      refine V_geta (o := 1) (q := 3) hB.1 dX0_ease_38 fm_X0_198_3 ⟨by decide, by decide, rfl, rfl⟩ ?_
      refine R_iload_n dX0_ease_41 rfl ?_
      refine V_iald (o := 3) (x := σ_1.1 3 v2.toNatClampNeg) hB.1 dX0_ease_42 ⟨by decide, rfl⟩ b5 rfl ?_
      obtain ⟨r9, σ_7, e8, h⟩ := h
      refine V_callR [.ref (A 1), .int v2, .int (σ_1.1 3 v2.toNatClampNeg)] hB hR dX0_ease_43 cv_X0_225 rfl rfl (Nat.le_of_ble_eq_true rfl) rfl e8 (Nat.zero_le _) (Nat.zero_le _) (fun hp hB => ?_)
      show RnH [] G l mX0_ease (d + 302) (PV ρ E A r σ1) noX 46 [.ref (A 0), .int v1, .int v2] [.int r9, .int v1] (ov rgM A σ_7 hp) c k
      have hR : σ_7.2.2 0 0 = .ref (ρ.1 2) := by rw [e8.1]; exact hR
      refine R_mmax dX0_ease_46 q1048 (Nat.le_of_ble_eq_true rfl) ?_
      refine S_istore_n (ls1 := [.ref (A 0), .int (sj_max v1 r9), .int v2]) dX0_ease_49 (by decide) rfl rfl ?_
      refine S_iinc (v := v2 + 1) (ls1 := [.ref (A 0), .int (sj_max v1 r9), .int (v2 + 1)]) dX0_ease_50 rfl rfl (by decide) rfl rfl ?_
      refine R_goto 4 dX0_ease_53 (by decide) ?_
      exact h G l hp hB hR
theorem gc_X0_gets_0 {d : Nat} {v1 : Int32} {v2 : Int32} {v3 : Int32} {c k : Nat} {ρ : Rho} {E : Hp → Prop} {A : Nat → Nat} {σ σ1 : Sg} {r : Option Value} (h : ((¬ v2 = v3) → ∃ (r4 : Int32) (σ_2 : Sg), Tv ρ E A mX1_misfit (d + 301) 0 0 [.ref (ρ.1 2), .ref (A 1), .int v1, .int v2] σ (some (.int r4)) σ_2 ∧ (r = some (.int r4) ∧ σ1 = σ_2)) ∧ ((v2 = v3) → r = some (.int 1000) ∧ σ1 = σ)) : Rv ρ E A mX0_gets (d + 302) c k 0 [.ref (A 0), .int v1, .int v2, .int v3] [] σ r σ1 := by
  intro G l hp hB hR
  refine R_iload_n dX0_gets_0 rfl ?_
  refine R_iload_n dX0_gets_1 rfl ?_
  refine R_icmp_ne 11 dX0_gets_2 (by decide) (fun c1 => ?_) (fun c1 => ?_)
  · replace h := h.1 c1
    refine R_aload_n dX0_gets_11 rfl ?_
    refine V_getr (o := 0) (v := .ref (ρ.1 2)) hB.1 dX0_gets_12 fm_X0_19_1 ⟨by decide, by decide, rfl, rfl⟩ hR ?_
    refine R_aload_n dX0_gets_15 rfl ?_
    refine V_geta (o := 0) (q := 1) hB.1 dX0_gets_16 fm_X0_28_1 ⟨by decide, by decide, rfl, rfl⟩ ?_
    refine R_iload_n dX0_gets_19 rfl ?_
    refine R_iload_n dX0_gets_20 rfl ?_
    obtain ⟨r4, σ_2, e3, h⟩ := h
    refine V_callR [.ref (A 1), .int v1, .int v2] hB hR dX0_gets_21 cv_X0_225 rfl rfl (Nat.le_of_ble_eq_true rfl) rfl e3 (Nat.zero_le _) (Nat.zero_le _) (fun hp hB => ?_)
    show RnH [] G l mX0_gets (d + 302) (PV ρ E A r σ1) noX 24 [.ref (A 0), .int v1, .int v2, .int v3] [.int r4] (ov rgM A σ_2 hp) c k
    have hR : σ_2.2.2 0 0 = .ref (ρ.1 2) := by rw [e3.1]; exact hR
    exact R_iret dX0_gets_24 rfl rfl ⟨h.1.symm, hp, hB, by rw [h.2]⟩
  · replace h := h.2 c1
    refine R_sipush (v := 1000) dX0_gets_5 (by decide) ?_
    refine R_goto 24 dX0_gets_8 (by decide) ?_
    exact R_iret dX0_gets_24 rfl rfl ⟨h.1.symm, hp, hB, by rw [h.2]⟩
theorem gc_X0_law_0 {d : Nat} {v1 : Int32} {c k : Nat} {ρ : Rho} {E : Hp → Prop} {A : Nat → Nat} {σ σ1 : Sg} {r : Option Value} (h : ((¬ (s0_isIn v1 0 999) = 0) → Rv ρ E A mX0_law (d + 302) c k 17 [.ref (A 0), .int v1, .int 0, .int 0] [] σ r σ1) ∧ (((s0_isIn v1 0 999) = 0) → r = some (.int (-1)) ∧ σ1 = σ)) : Rv ρ E A mX0_law (d + 302) c k 0 [.ref (A 0), .int v1, U_, U_] [] σ r σ1 := by
  intro G l hp hB hR
  refine R_iload_n dX0_law_0 rfl ?_
  refine R_iconst (v := 0) dX0_law_1 (by decide) ?_
  refine R_sipush (v := 999) dX0_law_2 (by decide) ?_
  refine V_callS [.int v1, .int 0, .int 999] dX0_law_5 cs_X0_145 rfl rfl (Nat.le_of_ble_eq_true rfl) (s0t_isIn (d + 300) v1 0 999) ?_
  show RnH [] G l mX0_law (d + 302) (PV ρ E A r σ1) noX 8 [.ref (A 0), .int v1, U_, U_] [.int (s0_isIn v1 0 999)] (ov rgM A σ hp) c k
  refine R_if_ne 13 dX0_law_8 (by decide) (fun c1 => ?_) (fun c1 => ?_)
  · replace h := h.1 c1
    refine R_iconst (v := 0) dX0_law_13 (by decide) ?_
    refine S_istore_n (ls1 := [.ref (A 0), .int v1, .int 0, U_]) dX0_law_14 (by decide) rfl rfl ?_
    refine R_iconst (v := 0) dX0_law_15 (by decide) ?_
    refine S_istore_n (ls1 := [.ref (A 0), .int v1, .int 0, .int 0]) dX0_law_16 (by decide) rfl rfl ?_
    exact h G l hp hB hR
  · replace h := h.2 c1
    refine R_iconst (v := (-1)) dX0_law_11 (by decide) ?_
    exact R_iret dX0_law_12 rfl rfl ⟨h.1.symm, hp, hB, by rw [h.2]⟩
theorem gc_X0_law_17 {d : Nat} {v1 : Int32} {v2 : Int32} {v3 : Int32} {c k : Nat} {ρ : Rho} {E : Hp → Prop} {A : Nat → Nat} {σ σ1 : Sg} {r : Option Value} (h : ∃ (r3 : Int32) (σ_1 : Sg), Tv ρ E A mX0_men (d + 301) 0 0 [.ref (A 0)] σ (some (.int r3)) σ_1 ∧ (((r3 ≤ v3) → r = some (.int v2) ∧ σ1 = σ_1) ∧ ((¬ r3 ≤ v3) → vp_in v3 6 ∧ ((((σ_1.1 3 v3.toNatClampNeg) < 0) → Rv ρ E A mX0_law (d + 302) c k 17 [.ref (A 0), .int v1, .int v2, .int (v3 + 1)] [] σ_1 r σ1) ∧ ((¬ (σ_1.1 3 v3.toNatClampNeg) < 0) → ∃ (r9 : Int32) (σ_7 : Sg), Tv ρ E A mX1_misfit (d + 301) 0 0 [.ref (ρ.1 2), .ref (A 1), .int v3, .int (σ_1.1 3 v3.toNatClampNeg)] σ_1 (some (.int r9)) σ_7 ∧ (((v1 < r9) → Rv ρ E A mX0_law (d + 302) c k 17 [.ref (A 0), .int v1, .int v2, .int (v3 + 1)] [] σ_7 r σ1) ∧ ((¬ v1 < r9) → Rv ρ E A mX0_law (d + 302) c k 17 [.ref (A 0), .int v1, .int (v2 + 1), .int (v3 + 1)] [] σ_7 r σ1))))))) : Rv ρ E A mX0_law (d + 302) c k 17 [.ref (A 0), .int v1, .int v2, .int v3] [] σ r σ1 := by
  intro G l hp hB hR
  refine R_iload_n dX0_law_17 rfl ?_
  refine R_aload_n dX0_law_18 rfl ?_
  obtain ⟨r3, σ_1, e2, h⟩ := h
  refine V_call (o := 0) [] hB hR dX0_law_19 cv_X0_143 rfl rfl (Nat.le_of_ble_eq_true rfl) ⟨by decide, rfl⟩ rfl e2 (Nat.zero_le _) (Nat.zero_le _) (fun hp hB => ?_)
  show RnH [] G l mX0_law (d + 302) (PV ρ E A r σ1) noX 22 [.ref (A 0), .int v1, .int v2, .int v3] [.int r3, .int v3] (ov rgM A σ_1 hp) c k
  have hR : σ_1.2.2 0 0 = .ref (ρ.1 2) := by rw [e2.1]; exact hR
  refine R_icmp_ge 71 dX0_law_22 (by decide) (fun c4 => ?_) (fun c4 => ?_)
  · replace h := h.1 c4
    refine R_iload_n dX0_law_71 rfl ?_
    exact R_iret dX0_law_72 rfl rfl ⟨h.1.symm, hp, hB, by rw [h.2]⟩
  · replace h := h.2 c4
    refine R_aload_n dX0_law_25 rfl ?_
    refine V_geta (o := 0) (q := 1) hB.1 dX0_law_26 fm_X0_28_1 ⟨by decide, by decide, rfl, rfl⟩ ?_
    refine V_geta (o := 1) (q := 3) hB.1 dX0_law_29 fm_X0_198_3 ⟨by decide, by decide, rfl, rfl⟩ ?_
    refine R_iload_n dX0_law_32 rfl ?_
    have b5 := h.1
    replace h := h.2
    refine V_iald (o := 3) (x := σ_1.1 3 v3.toNatClampNeg) hB.1 dX0_law_33 ⟨by decide, rfl⟩ b5 rfl ?_
    refine R_if_lt 65 dX0_law_34 (by decide) (fun c6 => ?_) (fun c6 => ?_)
    · replace h := h.1 c6
      refine S_iinc (v := v3 + 1) (ls1 := [.ref (A 0), .int v1, .int v2, .int (v3 + 1)]) dX0_law_65 rfl rfl (by decide) rfl rfl ?_
      refine R_goto 17 dX0_law_68 (by decide) ?_
      exact h G l hp hB hR
    · replace h := h.2 c6
      refine R_aload_n dX0_law_37 rfl ?_
      refine V_getr (o := 0) (v := .ref (ρ.1 2)) hB.1 dX0_law_38 fm_X0_19_1 ⟨by decide, by decide, rfl, rfl⟩ hR ?_
      refine R_aload_n dX0_law_41 rfl ?_
      refine V_geta (o := 0) (q := 1) hB.1 dX0_law_42 fm_X0_28_1 ⟨by decide, by decide, rfl, rfl⟩ ?_
      refine R_iload_n dX0_law_45 rfl ?_
      refine R_aload_n dX0_law_46 rfl ?_
      refine V_geta (o := 0) (q := 1) hB.1 dX0_law_47 fm_X0_28_1 ⟨by decide, by decide, rfl, rfl⟩ ?_
      refine V_geta (o := 1) (q := 3) hB.1 dX0_law_50 fm_X0_198_3 ⟨by decide, by decide, rfl, rfl⟩ ?_
      refine R_iload_n dX0_law_53 rfl ?_
      refine V_iald (o := 3) (x := σ_1.1 3 v3.toNatClampNeg) hB.1 dX0_law_54 ⟨by decide, rfl⟩ b5 rfl ?_
      obtain ⟨r9, σ_7, e8, h⟩ := h
      refine V_callR [.ref (A 1), .int v3, .int (σ_1.1 3 v3.toNatClampNeg)] hB hR dX0_law_55 cv_X0_225 rfl rfl (Nat.le_of_ble_eq_true rfl) rfl e8 (Nat.zero_le _) (Nat.zero_le _) (fun hp hB => ?_)
      show RnH [] G l mX0_law (d + 302) (PV ρ E A r σ1) noX 58 [.ref (A 0), .int v1, .int v2, .int v3] [.int r9] (ov rgM A σ_7 hp) c k
      have hR : σ_7.2.2 0 0 = .ref (ρ.1 2) := by rw [e8.1]; exact hR
      refine R_iload_n dX0_law_58 rfl ?_
      refine R_icmp_gt 65 dX0_law_59 (by decide) (fun c10 => ?_) (fun c10 => ?_)
      · replace h := h.1 c10
        refine S_iinc (v := v3 + 1) (ls1 := [.ref (A 0), .int v1, .int v2, .int (v3 + 1)]) dX0_law_65 rfl rfl (by decide) rfl rfl ?_
        refine R_goto 17 dX0_law_68 (by decide) ?_
        exact h G l hp hB hR
      · replace h := h.2 c10
        refine S_iinc (v := v2 + 1) (ls1 := [.ref (A 0), .int v1, .int (v2 + 1), .int v3]) dX0_law_62 rfl rfl (by decide) rfl rfl ?_
        refine S_iinc (v := v3 + 1) (ls1 := [.ref (A 0), .int v1, .int (v2 + 1), .int (v3 + 1)]) dX0_law_65 rfl rfl (by decide) rfl rfl ?_
        refine R_goto 17 dX0_law_68 (by decide) ?_
        exact h G l hp hB hR
theorem gc_X0_misfit_0 {d : Nat} {v1 : Int32} {v2 : Int32} {c k : Nat} {ρ : Rho} {E : Hp → Prop} {A : Nat → Nat} {σ σ1 : Sg} {r : Option Value} (h : ∃ (r3 : Int32) (σ_1 : Sg), Tv ρ E A mX0_isMan (d + 301) 0 0 [.ref (A 0), .int v1] σ (some (.int r3)) σ_1 ∧ (((r3 = 0) → r = some (.int (-1)) ∧ σ1 = σ_1) ∧ ((¬ r3 = 0) → ∃ (r7 : Int32) (σ_5 : Sg), Tv ρ E A mX0_isCoat (d + 301) 0 0 [.ref (A 0), .int v2] σ_1 (some (.int r7)) σ_5 ∧ (((r7 = 0) → r = some (.int (-1)) ∧ σ1 = σ_5) ∧ ((¬ r7 = 0) → ∃ (r11 : Int32) (σ_9 : Sg), Tv ρ E A mX1_misfit (d + 301) 0 0 [.ref (ρ.1 2), .ref (A 1), .int v1, .int v2] σ_5 (some (.int r11)) σ_9 ∧ (r = some (.int r11) ∧ σ1 = σ_9)))))) : Rv ρ E A mX0_misfit (d + 302) c k 0 [.ref (A 0), .int v1, .int v2] [] σ r σ1 := by
  intro G l hp hB hR
  refine R_aload_n dX0_misfit_0 rfl ?_
  refine R_iload_n dX0_misfit_1 rfl ?_
  obtain ⟨r3, σ_1, e2, h⟩ := h
  refine V_call (o := 0) [.int v1] hB hR dX0_misfit_2 cv_X0_180 rfl rfl (Nat.le_of_ble_eq_true rfl) ⟨by decide, rfl⟩ rfl e2 (Nat.zero_le _) (Nat.zero_le _) (fun hp hB => ?_)
  show RnH [] G l mX0_misfit (d + 302) (PV ρ E A r σ1) noX 5 [.ref (A 0), .int v1, .int v2] [.int r3] (ov rgM A σ_1 hp) c k
  have hR : σ_1.2.2 0 0 = .ref (ρ.1 2) := by rw [e2.1]; exact hR
  refine R_if_eq 32 dX0_misfit_5 (by decide) (fun c4 => ?_) (fun c4 => ?_)
  · replace h := h.1 c4
    refine R_iconst (v := (-1)) dX0_misfit_32 (by decide) ?_
    exact R_iret dX0_misfit_33 rfl rfl ⟨h.1.symm, hp, hB, by rw [h.2]⟩
  · replace h := h.2 c4
    refine R_aload_n dX0_misfit_8 rfl ?_
    refine R_iload_n dX0_misfit_9 rfl ?_
    obtain ⟨r7, σ_5, e6, h⟩ := h
    refine V_call (o := 0) [.int v2] hB hR dX0_misfit_10 cv_X0_205 rfl rfl (Nat.le_of_ble_eq_true rfl) ⟨by decide, rfl⟩ rfl e6 (Nat.zero_le _) (Nat.zero_le _) (fun hp hB => ?_)
    show RnH [] G l mX0_misfit (d + 302) (PV ρ E A r σ1) noX 13 [.ref (A 0), .int v1, .int v2] [.int r7] (ov rgM A σ_5 hp) c k
    have hR : σ_5.2.2 0 0 = .ref (ρ.1 2) := by rw [e6.1]; exact hR
    refine R_if_eq 32 dX0_misfit_13 (by decide) (fun c8 => ?_) (fun c8 => ?_)
    · replace h := h.1 c8
      refine R_iconst (v := (-1)) dX0_misfit_32 (by decide) ?_
      exact R_iret dX0_misfit_33 rfl rfl ⟨h.1.symm, hp, hB, by rw [h.2]⟩
    · replace h := h.2 c8
      refine R_aload_n dX0_misfit_16 rfl ?_
      refine V_getr (o := 0) (v := .ref (ρ.1 2)) hB.1 dX0_misfit_17 fm_X0_19_1 ⟨by decide, by decide, rfl, rfl⟩ hR ?_
      refine R_aload_n dX0_misfit_20 rfl ?_
      refine V_geta (o := 0) (q := 1) hB.1 dX0_misfit_21 fm_X0_28_1 ⟨by decide, by decide, rfl, rfl⟩ ?_
      refine R_iload_n dX0_misfit_24 rfl ?_
      refine R_iload_n dX0_misfit_25 rfl ?_
      obtain ⟨r11, σ_9, e10, h⟩ := h
      refine V_callR [.ref (A 1), .int v1, .int v2] hB hR dX0_misfit_26 cv_X0_225 rfl rfl (Nat.le_of_ble_eq_true rfl) rfl e10 (Nat.zero_le _) (Nat.zero_le _) (fun hp hB => ?_)
      show RnH [] G l mX0_misfit (d + 302) (PV ρ E A r σ1) noX 29 [.ref (A 0), .int v1, .int v2] [.int r11] (ov rgM A σ_9 hp) c k
      have hR : σ_9.2.2 0 0 = .ref (ρ.1 2) := by rw [e10.1]; exact hR
      refine R_goto 33 dX0_misfit_29 (by decide) ?_
      exact R_iret dX0_misfit_33 rfl rfl ⟨h.1.symm, hp, hB, by rw [h.2]⟩
theorem gc_X1_fitsn_0 {d : Nat} {v2 : Int32} {v3 : Int32} {c k : Nat} {ρ : Rho} {E : Hp → Prop} {A : Nat → Nat} {σ σ1 : Sg} {r : Option Value} (h : ((v3 < 0) → r = some (.int 0) ∧ σ1 = σ) ∧ ((¬ v3 < 0) → ∃ (r4 : Int32) (σ_2 : Sg), Tv ρ E A mX1_misfit (d + 301) 0 0 [.ref (ρ.1 2), .ref (A 1), .int v2, .int v3] σ (some (.int r4)) σ_2 ∧ (r = some (.int (if (rgI ρ 9) < r4 then 0 else 1)) ∧ σ1 = σ_2))) : Rv ρ E A mX1_fits (d + 302) c k 0 [.ref (ρ.1 2), .ref (A 1), .int v2, .int v3] [] σ r σ1 := by
  intro G l hp hB hR
  refine R_iload_n dX1_fits_0 rfl ?_
  refine R_if_lt 22 dX1_fits_1 (by decide) (fun c1 => ?_) (fun c1 => ?_)
  · replace h := h.1 c1
    refine R_iconst (v := 0) dX1_fits_22 (by decide) ?_
    exact R_iret dX1_fits_23 rfl rfl ⟨h.1.symm, hp, hB, by rw [h.2]⟩
  · replace h := h.2 c1
    refine R_aload_n dX1_fits_4 rfl ?_
    refine R_aload_n dX1_fits_5 rfl ?_
    refine R_iload_n dX1_fits_6 rfl ?_
    refine R_iload_n dX1_fits_7 rfl ?_
    obtain ⟨r4, σ_2, e3, h⟩ := h
    refine V_callR [.ref (A 1), .int v2, .int v3] hB hR dX1_fits_8 cv_X1_82 rfl rfl (Nat.le_of_ble_eq_true rfl) rfl e3 (Nat.zero_le _) (Nat.zero_le _) (fun hp hB => ?_)
    show RnH [] G l mX1_fits (d + 302) (PV ρ E A r σ1) noX 11 [.ref (ρ.1 2), .ref (A 1), .int v2, .int v3] [.int r4] (ov rgM A σ_2 hp) c k
    have hR : σ_2.2.2 0 0 = .ref (ρ.1 2) := by rw [e3.1]; exact hR
    refine R_aload_n dX1_fits_11 rfl ?_
    refine V_rget (v := .int (rgI ρ 9)) hB dX1_fits_12 fm_X1_21_2 rfl ?_
    have J5 : RnH [] G l mX1_fits (d + 302) (PV ρ E A r σ1) noX 23 [.ref (ρ.1 2), .ref (A 1), .int v2, .int v3] [.int (if (rgI ρ 9) < r4 then 0 else 1)] (ov rgM A σ_2 hp) c k := by
      exact R_iret dX1_fits_23 rfl (by show isB _; repeat (first | exact isB_0 | exact isB_1 | refine isB_if ?_ ?_)) ⟨h.1.symm, hp, hB, by rw [h.2]⟩
    refine R_icmp_gt 22 dX1_fits_15 (by decide) (fun c6 => ?_) (fun c6 => ?_)
    · refine R_iconst (v := 0) dX1_fits_22 (by decide) ?_
      simp only [if_pos c6] at J5
      first | exact J5 | (simp only [if_pos c6]; exact J5)
    · refine R_iconst (v := 1) dX1_fits_18 (by decide) ?_
      refine R_goto 23 dX1_fits_19 (by decide) ?_
      simp only [if_neg c6] at J5
      first | exact J5 | (simp only [if_neg c6]; exact J5)
theorem gc_X1_fitst_0 {d : Nat} {v2 : Int32} {v3 : Int32} {c k : Nat} {ρ : Rho} {E : Hp → Prop} {A : Nat → Nat} {σ σ1 : Sg} {r : Option Value} (h : ((v3 < 0) → r = some (.int 0) ∧ σ1 = σ) ∧ ((¬ v3 < 0) → ∃ (r4 : Int32) (σ_2 : Sg), Tv ρ E A mX1_misfit (d + 301) 0 0 [.ref (ρ.1 2), .ref (A 8), .int v2, .int v3] σ (some (.int r4)) σ_2 ∧ (r = some (.int (if (rgI ρ 9) < r4 then 0 else 1)) ∧ σ1 = σ_2))) : Rv ρ E A mX1_fits (d + 302) c k 0 [.ref (ρ.1 2), .ref (A 8), .int v2, .int v3] [] σ r σ1 := by
  intro G l hp hB hR
  refine R_iload_n dX1_fits_0 rfl ?_
  refine R_if_lt 22 dX1_fits_1 (by decide) (fun c1 => ?_) (fun c1 => ?_)
  · replace h := h.1 c1
    refine R_iconst (v := 0) dX1_fits_22 (by decide) ?_
    exact R_iret dX1_fits_23 rfl rfl ⟨h.1.symm, hp, hB, by rw [h.2]⟩
  · replace h := h.2 c1
    refine R_aload_n dX1_fits_4 rfl ?_
    refine R_aload_n dX1_fits_5 rfl ?_
    refine R_iload_n dX1_fits_6 rfl ?_
    refine R_iload_n dX1_fits_7 rfl ?_
    obtain ⟨r4, σ_2, e3, h⟩ := h
    refine V_callR [.ref (A 8), .int v2, .int v3] hB hR dX1_fits_8 cv_X1_82 rfl rfl (Nat.le_of_ble_eq_true rfl) rfl e3 (Nat.zero_le _) (Nat.zero_le _) (fun hp hB => ?_)
    show RnH [] G l mX1_fits (d + 302) (PV ρ E A r σ1) noX 11 [.ref (ρ.1 2), .ref (A 8), .int v2, .int v3] [.int r4] (ov rgM A σ_2 hp) c k
    have hR : σ_2.2.2 0 0 = .ref (ρ.1 2) := by rw [e3.1]; exact hR
    refine R_aload_n dX1_fits_11 rfl ?_
    refine V_rget (v := .int (rgI ρ 9)) hB dX1_fits_12 fm_X1_21_2 rfl ?_
    have J5 : RnH [] G l mX1_fits (d + 302) (PV ρ E A r σ1) noX 23 [.ref (ρ.1 2), .ref (A 8), .int v2, .int v3] [.int (if (rgI ρ 9) < r4 then 0 else 1)] (ov rgM A σ_2 hp) c k := by
      exact R_iret dX1_fits_23 rfl (by show isB _; repeat (first | exact isB_0 | exact isB_1 | refine isB_if ?_ ?_)) ⟨h.1.symm, hp, hB, by rw [h.2]⟩
    refine R_icmp_gt 22 dX1_fits_15 (by decide) (fun c6 => ?_) (fun c6 => ?_)
    · refine R_iconst (v := 0) dX1_fits_22 (by decide) ?_
      simp only [if_pos c6] at J5
      first | exact J5 | (simp only [if_pos c6]; exact J5)
    · refine R_iconst (v := 1) dX1_fits_18 (by decide) ?_
      refine R_goto 23 dX1_fits_19 (by decide) ?_
      simp only [if_neg c6] at J5
      first | exact J5 | (simp only [if_neg c6]; exact J5)
theorem gc_X0_doesFit_0 {d : Nat} {v1 : Int32} {v2 : Int32} {v3 : Int32} {v4 : Int32} {c k : Nat} {ρ : Rho} {E : Hp → Prop} {A : Nat → Nat} {σ σ1 : Sg} {r : Option Value} (h : ∃ (σ_1 : Sg), Tv ρ E A mX2_of (d + 302) 0 0 [.ref (A 8), .ref (A 1)] σ none σ_1 ∧ (vp_in v1 6 ∧ (((((upd (σ_1.1 11) v1.toNatClampNeg ((σ_1.1 11 v1.toNatClampNeg) - v4)) v1.toNatClampNeg) < 0) → Rv ρ E A mX0_doesFit (d + 303) c k 90 [.ref (A 0), .int v1, .int v2, .int v3, .int v4, U_] [] (upA (upA σ_1.1 12 (upd (σ_1.1 12) v1.toNatClampNeg ((σ_1.1 12 v1.toNatClampNeg) - v3))) 11 (upd (σ_1.1 11) v1.toNatClampNeg ((σ_1.1 11 v1.toNatClampNeg) - v4)), σ_1.2) r σ1) ∧ ((¬ ((upd (σ_1.1 11) v1.toNatClampNeg ((σ_1.1 11 v1.toNatClampNeg) - v4)) v1.toNatClampNeg) < 0) → (((s0_isIn ((upd (σ_1.1 12) v1.toNatClampNeg ((σ_1.1 12 v1.toNatClampNeg) - v3)) v1.toNatClampNeg) 0 99) = 0) → Rv ρ E A mX0_doesFit (d + 303) c k 90 [.ref (A 0), .int v1, .int v2, .int v3, .int v4, U_] [] (upA (upA σ_1.1 12 (upd (σ_1.1 12) v1.toNatClampNeg ((σ_1.1 12 v1.toNatClampNeg) - v3))) 11 (upd (σ_1.1 11) v1.toNatClampNeg ((σ_1.1 11 v1.toNatClampNeg) - v4)), σ_1.2) r σ1) ∧ ((¬ (s0_isIn ((upd (σ_1.1 12) v1.toNatClampNeg ((σ_1.1 12 v1.toNatClampNeg) - v3)) v1.toNatClampNeg) 0 99) = 0) → ((0 ≤ v3) → Rv ρ E A mX0_doesFit (d + 303) c k 86 [.ref (A 0), .int v1, .int v2, .int v3, .int v4, U_] [] (upA (upA σ_1.1 12 (upd (σ_1.1 12) v1.toNatClampNeg ((σ_1.1 12 v1.toNatClampNeg) - v3))) 11 (upd (σ_1.1 11) v1.toNatClampNeg ((σ_1.1 11 v1.toNatClampNeg) - v4)), σ_1.2) r σ1) ∧ ((¬ 0 ≤ v3) → Rv ρ E A mX0_doesFit (d + 303) c k 91 [.ref (A 0), .int v1, .int v2, .int v3, .int v4, U_] [.int (if (σ_1.1 6 v1.toNatClampNeg) < (-v3) then 0 else 1)] (upA (upA σ_1.1 12 (upd (σ_1.1 12) v1.toNatClampNeg ((σ_1.1 12 v1.toNatClampNeg) - v3))) 11 (upd (σ_1.1 11) v1.toNatClampNeg ((σ_1.1 11 v1.toNatClampNeg) - v4)), σ_1.2) r σ1)))))) : Rv ρ E A mX0_doesFit (d + 303) c k 0 [.ref (A 0), .int v1, .int v2, .int v3, .int v4, U_] [] σ r σ1 := by
  intro G l hp hB hR
  refine R_aload_n dX0_doesFit_0 rfl ?_
  refine V_geta (o := 0) (q := 8) hB.1 dX0_doesFit_1 fm_X0_32_1 ⟨by decide, by decide, rfl, rfl⟩ ?_
  refine R_aload_n dX0_doesFit_4 rfl ?_
  refine V_geta (o := 0) (q := 1) hB.1 dX0_doesFit_5 fm_X0_28_1 ⟨by decide, by decide, rfl, rfl⟩ ?_
  obtain ⟨σ_1, e2, h⟩ := h
  refine V_call (o := 8) [.ref (A 1)] hB hR dX0_doesFit_8 cv_X0_118 rfl rfl (Nat.le_of_ble_eq_true rfl) ⟨by decide, rfl⟩ rfl e2 (Nat.zero_le _) (Nat.zero_le _) (fun hp hB => ?_)
  show RnH [] G l mX0_doesFit (d + 303) (PV ρ E A r σ1) noX 11 [.ref (A 0), .int v1, .int v2, .int v3, .int v4, U_] [] (ov rgM A σ_1 hp) c k
  have hR : σ_1.2.2 0 0 = .ref (ρ.1 2) := by rw [e2.1]; exact hR
  refine R_aload_n dX0_doesFit_11 rfl ?_
  refine V_geta (o := 0) (q := 8) hB.1 dX0_doesFit_12 fm_X0_32_1 ⟨by decide, by decide, rfl, rfl⟩ ?_
  refine V_geta (o := 8) (q := 12) hB.1 dX0_doesFit_15 fm_X0_210_3 ⟨by decide, by decide, rfl, rfl⟩ ?_
  refine R_iload_n dX0_doesFit_18 rfl ?_
  refine R_dup2 dX0_doesFit_19 rfl rfl ?_
  have b3 := h.1
  replace h := h.2
  refine V_iald (o := 12) (x := σ_1.1 12 v1.toNatClampNeg) hB.1 dX0_doesFit_20 ⟨by decide, rfl⟩ b3 rfl ?_
  refine R_iload_n dX0_doesFit_21 rfl ?_
  refine R_isub dX0_doesFit_22 ?_
  refine V_iast (o := 12) (σ9 := (upA σ_1.1 12 (upd (σ_1.1 12) v1.toNatClampNeg ((σ_1.1 12 v1.toNatClampNeg) - v3)), σ_1.2)) hB.1 dX0_doesFit_23 ⟨by decide, rfl⟩ b3 rfl ?_
  refine R_aload_n dX0_doesFit_24 rfl ?_
  refine V_geta (o := 0) (q := 8) hB.1 dX0_doesFit_25 fm_X0_32_1 ⟨by decide, by decide, rfl, rfl⟩ ?_
  refine V_geta (o := 8) (q := 11) hB.1 dX0_doesFit_28 fm_X0_208_3 ⟨by decide, by decide, rfl, rfl⟩ ?_
  refine R_iload_n dX0_doesFit_31 rfl ?_
  refine R_dup2 dX0_doesFit_32 rfl rfl ?_
  refine V_iald (o := 11) (x := σ_1.1 11 v1.toNatClampNeg) hB.1 dX0_doesFit_33 ⟨by decide, rfl⟩ b3 rfl ?_
  refine R_iload dX0_doesFit_34 rfl ?_
  refine R_isub dX0_doesFit_36 ?_
  refine V_iast (o := 11) (σ9 := (upA (upA σ_1.1 12 (upd (σ_1.1 12) v1.toNatClampNeg ((σ_1.1 12 v1.toNatClampNeg) - v3))) 11 (upd (σ_1.1 11) v1.toNatClampNeg ((σ_1.1 11 v1.toNatClampNeg) - v4)), σ_1.2)) hB.1 dX0_doesFit_37 ⟨by decide, rfl⟩ b3 rfl ?_
  refine R_aload_n dX0_doesFit_38 rfl ?_
  refine V_geta (o := 0) (q := 8) hB.1 dX0_doesFit_39 fm_X0_32_1 ⟨by decide, by decide, rfl, rfl⟩ ?_
  refine V_geta (o := 8) (q := 11) hB.1 dX0_doesFit_42 fm_X0_208_3 ⟨by decide, by decide, rfl, rfl⟩ ?_
  refine R_iload_n dX0_doesFit_45 rfl ?_
  refine V_iald (o := 11) (x := (upd (σ_1.1 11) v1.toNatClampNeg ((σ_1.1 11 v1.toNatClampNeg) - v4)) v1.toNatClampNeg) hB.1 dX0_doesFit_46 ⟨by decide, rfl⟩ b3 rfl ?_
  refine R_if_lt 90 dX0_doesFit_47 (by decide) (fun c4 => ?_) (fun c4 => ?_)
  · replace h := h.1 c4
    exact h G l hp hB hR
  · replace h := h.2 c4
    refine R_aload_n dX0_doesFit_50 rfl ?_
    refine V_geta (o := 0) (q := 8) hB.1 dX0_doesFit_51 fm_X0_32_1 ⟨by decide, by decide, rfl, rfl⟩ ?_
    refine V_geta (o := 8) (q := 12) hB.1 dX0_doesFit_54 fm_X0_210_3 ⟨by decide, by decide, rfl, rfl⟩ ?_
    refine R_iload_n dX0_doesFit_57 rfl ?_
    refine V_iald (o := 12) (x := (upd (σ_1.1 12) v1.toNatClampNeg ((σ_1.1 12 v1.toNatClampNeg) - v3)) v1.toNatClampNeg) hB.1 dX0_doesFit_58 ⟨by decide, rfl⟩ b3 rfl ?_
    refine R_iconst (v := 0) dX0_doesFit_59 (by decide) ?_
    refine R_bipush (v := 99) dX0_doesFit_60 (by decide) ?_
    refine V_callS [.int ((upd (σ_1.1 12) v1.toNatClampNeg ((σ_1.1 12 v1.toNatClampNeg) - v3)) v1.toNatClampNeg), .int 0, .int 99] dX0_doesFit_62 cs_X0_145 rfl rfl (Nat.le_of_ble_eq_true rfl) (s0t_isIn (d + 301) ((upd (σ_1.1 12) v1.toNatClampNeg ((σ_1.1 12 v1.toNatClampNeg) - v3)) v1.toNatClampNeg) 0 99) ?_
    show RnH [] G l mX0_doesFit (d + 303) (PV ρ E A r σ1) noX 65 [.ref (A 0), .int v1, .int v2, .int v3, .int v4, U_] [.int (s0_isIn ((upd (σ_1.1 12) v1.toNatClampNeg ((σ_1.1 12 v1.toNatClampNeg) - v3)) v1.toNatClampNeg) 0 99)] (ov rgM A (upA (upA σ_1.1 12 (upd (σ_1.1 12) v1.toNatClampNeg ((σ_1.1 12 v1.toNatClampNeg) - v3))) 11 (upd (σ_1.1 11) v1.toNatClampNeg ((σ_1.1 11 v1.toNatClampNeg) - v4)), σ_1.2) hp) c k
    refine R_if_eq 90 dX0_doesFit_65 (by decide) (fun c5 => ?_) (fun c5 => ?_)
    · replace h := h.1 c5
      exact h G l hp hB hR
    · replace h := h.2 c5
      refine R_iload_n dX0_doesFit_68 rfl ?_
      refine R_if_ge 86 dX0_doesFit_69 (by decide) (fun c6 => ?_) (fun c6 => ?_)
      · replace h := h.1 c6
        exact h G l hp hB hR
      · replace h := h.2 c6
        refine R_iload_n dX0_doesFit_72 rfl ?_
        refine R_ineg dX0_doesFit_73 ?_
        refine R_aload_n dX0_doesFit_74 rfl ?_
        refine V_geta (o := 0) (q := 1) hB.1 dX0_doesFit_75 fm_X0_28_1 ⟨by decide, by decide, rfl, rfl⟩ ?_
        refine V_geta (o := 1) (q := 6) hB.1 dX0_doesFit_78 fm_X0_213_3 ⟨by decide, by decide, rfl, rfl⟩ ?_
        refine R_iload_n dX0_doesFit_81 rfl ?_
        refine V_iald (o := 6) (x := σ_1.1 6 v1.toNatClampNeg) hB.1 dX0_doesFit_82 ⟨by decide, rfl⟩ b3 rfl ?_
        have J7 : RnH [] G l mX0_doesFit (d + 303) (PV ρ E A r σ1) noX 91 [.ref (A 0), .int v1, .int v2, .int v3, .int v4, U_] [.int (if (σ_1.1 6 v1.toNatClampNeg) < (-v3) then 0 else 1)] (ov rgM A (upA (upA σ_1.1 12 (upd (σ_1.1 12) v1.toNatClampNeg ((σ_1.1 12 v1.toNatClampNeg) - v3))) 11 (upd (σ_1.1 11) v1.toNatClampNeg ((σ_1.1 11 v1.toNatClampNeg) - v4)), σ_1.2) hp) c k := by
          exact h G l hp hB hR
        refine R_icmp_gt 90 dX0_doesFit_83 (by decide) (fun c8 => ?_) (fun c8 => ?_)
        · refine R_iconst (v := 0) dX0_doesFit_90 (by decide) ?_
          simp only [if_pos c8] at J7
          first | exact J7 | (simp only [if_pos c8]; exact J7)
        · refine R_iconst (v := 1) dX0_doesFit_86 (by decide) ?_
          refine R_goto 91 dX0_doesFit_87 (by decide) ?_
          simp only [if_neg c8] at J7
          first | exact J7 | (simp only [if_neg c8]; exact J7)
theorem gc_X0_doesFit_86 {d : Nat} {v1 : Int32} {v2 : Int32} {v3 : Int32} {v4 : Int32} {c k : Nat} {ρ : Rho} {E : Hp → Prop} {A : Nat → Nat} {σ σ1 : Sg} {r : Option Value} (h : Rv ρ E A mX0_doesFit (d + 303) c k 91 [.ref (A 0), .int v1, .int v2, .int v3, .int v4, U_] [.int 1] σ r σ1) : Rv ρ E A mX0_doesFit (d + 303) c k 86 [.ref (A 0), .int v1, .int v2, .int v3, .int v4, U_] [] σ r σ1 := by
  intro G l hp hB hR
  refine R_iconst (v := 1) dX0_doesFit_86 (by decide) ?_
  refine R_goto 91 dX0_doesFit_87 (by decide) ?_
  exact h G l hp hB hR
theorem gc_X0_doesFit_90 {d : Nat} {v1 : Int32} {v2 : Int32} {v3 : Int32} {v4 : Int32} {c k : Nat} {ρ : Rho} {E : Hp → Prop} {A : Nat → Nat} {σ σ1 : Sg} {r : Option Value} (h : Rv ρ E A mX0_doesFit (d + 303) c k 91 [.ref (A 0), .int v1, .int v2, .int v3, .int v4, U_] [.int 0] σ r σ1) : Rv ρ E A mX0_doesFit (d + 303) c k 90 [.ref (A 0), .int v1, .int v2, .int v3, .int v4, U_] [] σ r σ1 := by
  intro G l hp hB hR
  refine R_iconst (v := 0) dX0_doesFit_90 (by decide) ?_
  exact h G l hp hB hR
theorem gc_X0_doesFit_91_1 {d : Nat} {v1 : Int32} {v2 : Int32} {v3 : Int32} {v4 : Int32} {t0 : Int32} {c k : Nat} {ρ : Rho} {E : Hp → Prop} {A : Nat → Nat} {σ σ1 : Sg} {r : Option Value} (h : ((t0 = 0) → r = some (.int 0) ∧ σ1 = σ) ∧ ((¬ t0 = 0) → ∃ (r4 : Int32) (σ_2 : Sg), Tv ρ E A mX1_fits (d + 302) 0 0 [.ref (ρ.1 2), .ref (A 8), .int v2, .int v1] σ (some (.int r4)) σ_2 ∧ (r = some (.int (if r4 = 0 then 0 else 1)) ∧ σ1 = σ_2))) : Rv ρ E A mX0_doesFit (d + 303) c k 91 [.ref (A 0), .int v1, .int v2, .int v3, .int v4, U_] [.int t0] σ r σ1 := by
  intro G l hp hB hR
  refine S_istore (ls1 := [.ref (A 0), .int v1, .int v2, .int v3, .int v4, .int t0]) dX0_doesFit_91 (by decide) rfl rfl ?_
  refine R_iload dX0_doesFit_93 rfl ?_
  refine R_if_eq 118 dX0_doesFit_95 (by decide) (fun c1 => ?_) (fun c1 => ?_)
  · replace h := h.1 c1
    refine R_iconst (v := 0) dX0_doesFit_118 (by decide) ?_
    exact R_iret dX0_doesFit_119 rfl rfl ⟨h.1.symm, hp, hB, by rw [h.2]⟩
  · replace h := h.2 c1
    refine R_aload_n dX0_doesFit_98 rfl ?_
    refine V_getr (o := 0) (v := .ref (ρ.1 2)) hB.1 dX0_doesFit_99 fm_X0_19_1 ⟨by decide, by decide, rfl, rfl⟩ hR ?_
    refine R_aload_n dX0_doesFit_102 rfl ?_
    refine V_geta (o := 0) (q := 8) hB.1 dX0_doesFit_103 fm_X0_32_1 ⟨by decide, by decide, rfl, rfl⟩ ?_
    refine R_iload_n dX0_doesFit_106 rfl ?_
    refine R_iload_n dX0_doesFit_107 rfl ?_
    obtain ⟨r4, σ_2, e3, h⟩ := h
    refine V_callR [.ref (A 8), .int v2, .int v1] hB hR dX0_doesFit_108 cv_X0_176 rfl rfl (Nat.le_of_ble_eq_true rfl) rfl e3 (Nat.zero_le _) (Nat.zero_le _) (fun hp hB => ?_)
    show RnH [] G l mX0_doesFit (d + 303) (PV ρ E A r σ1) noX 111 [.ref (A 0), .int v1, .int v2, .int v3, .int v4, .int t0] [.int r4] (ov rgM A σ_2 hp) c k
    have hR : σ_2.2.2 0 0 = .ref (ρ.1 2) := by rw [e3.1]; exact hR
    have J5 : RnH [] G l mX0_doesFit (d + 303) (PV ρ E A r σ1) noX 119 [.ref (A 0), .int v1, .int v2, .int v3, .int v4, .int t0] [.int (if r4 = 0 then 0 else 1)] (ov rgM A σ_2 hp) c k := by
      exact R_iret dX0_doesFit_119 rfl (by show isB _; repeat (first | exact isB_0 | exact isB_1 | refine isB_if ?_ ?_)) ⟨h.1.symm, hp, hB, by rw [h.2]⟩
    refine R_if_eq 118 dX0_doesFit_111 (by decide) (fun c6 => ?_) (fun c6 => ?_)
    · refine R_iconst (v := 0) dX0_doesFit_118 (by decide) ?_
      simp only [if_pos c6] at J5
      first | exact J5 | (simp only [if_pos c6]; exact J5)
    · refine R_iconst (v := 1) dX0_doesFit_114 (by decide) ?_
      refine R_goto 119 dX0_doesFit_115 (by decide) ?_
      simp only [if_neg c6] at J5
      first | exact J5 | (simp only [if_neg c6]; exact J5)
theorem gc_X0_fitting_0 {d : Nat} {v1 : Int32} {c k : Nat} {ρ : Rho} {E : Hp → Prop} {A : Nat → Nat} {σ σ1 : Sg} {r : Option Value} (h : Rv ρ E A mX0_fitting (d + 303) c k 4 [.ref (A 0), .int v1, .int 0, .int 0] [] σ r σ1) : Rv ρ E A mX0_fitting (d + 303) c k 0 [.ref (A 0), .int v1, U_, U_] [] σ r σ1 := by
  intro G l hp hB hR
  refine R_iconst (v := 0) dX0_fitting_0 (by decide) ?_
  refine S_istore_n (ls1 := [.ref (A 0), .int v1, .int 0, U_]) dX0_fitting_1 (by decide) rfl rfl ?_
  refine R_iconst (v := 0) dX0_fitting_2 (by decide) ?_
  refine S_istore_n (ls1 := [.ref (A 0), .int v1, .int 0, .int 0]) dX0_fitting_3 (by decide) rfl rfl ?_
  exact h G l hp hB hR
theorem gc_X0_fitting_4 {d : Nat} {v1 : Int32} {v2 : Int32} {v3 : Int32} {c k : Nat} {ρ : Rho} {E : Hp → Prop} {A : Nat → Nat} {σ σ1 : Sg} {r : Option Value} (h : ∃ (r3 : Int32) (σ_1 : Sg), Tv ρ E A mX0_coats (d + 302) 0 0 [.ref (A 0)] σ (some (.int r3)) σ_1 ∧ (((r3 ≤ v3) → r = some (.int v2) ∧ σ1 = σ_1) ∧ ((¬ r3 ≤ v3) → ∃ (r7 : Int32) (σ_5 : Sg), Tv ρ E A mX1_fits (d + 302) 0 0 [.ref (ρ.1 2), .ref (A 1), .int v1, .int v3] σ_1 (some (.int r7)) σ_5 ∧ (((r7 = 0) → Rv ρ E A mX0_fitting (d + 303) c k 4 [.ref (A 0), .int v1, .int v2, .int (v3 + 1)] [] σ_5 r σ1) ∧ ((¬ r7 = 0) → Rv ρ E A mX0_fitting (d + 303) c k 4 [.ref (A 0), .int v1, .int (v2 ||| (1 <<< (v3 &&& 31))), .int (v3 + 1)] [] σ_5 r σ1))))) : Rv ρ E A mX0_fitting (d + 303) c k 4 [.ref (A 0), .int v1, .int v2, .int v3] [] σ r σ1 := by
  intro G l hp hB hR
  refine R_iload_n dX0_fitting_4 rfl ?_
  refine R_aload_n dX0_fitting_5 rfl ?_
  obtain ⟨r3, σ_1, e2, h⟩ := h
  refine V_call (o := 0) [] hB hR dX0_fitting_6 cv_X0_149 rfl rfl (Nat.le_of_ble_eq_true rfl) ⟨by decide, rfl⟩ rfl e2 (Nat.zero_le _) (Nat.zero_le _) (fun hp hB => ?_)
  show RnH [] G l mX0_fitting (d + 303) (PV ρ E A r σ1) noX 9 [.ref (A 0), .int v1, .int v2, .int v3] [.int r3, .int v3] (ov rgM A σ_1 hp) c k
  have hR : σ_1.2.2 0 0 = .ref (ρ.1 2) := by rw [e2.1]; exact hR
  refine R_icmp_ge 40 dX0_fitting_9 (by decide) (fun c4 => ?_) (fun c4 => ?_)
  · replace h := h.1 c4
    refine R_iload_n dX0_fitting_40 rfl ?_
    exact R_iret dX0_fitting_41 rfl rfl ⟨h.1.symm, hp, hB, by rw [h.2]⟩
  · replace h := h.2 c4
    refine R_aload_n dX0_fitting_12 rfl ?_
    refine V_getr (o := 0) (v := .ref (ρ.1 2)) hB.1 dX0_fitting_13 fm_X0_19_1 ⟨by decide, by decide, rfl, rfl⟩ hR ?_
    refine R_aload_n dX0_fitting_16 rfl ?_
    refine V_geta (o := 0) (q := 1) hB.1 dX0_fitting_17 fm_X0_28_1 ⟨by decide, by decide, rfl, rfl⟩ ?_
    refine R_iload_n dX0_fitting_20 rfl ?_
    refine R_iload_n dX0_fitting_21 rfl ?_
    obtain ⟨r7, σ_5, e6, h⟩ := h
    refine V_callR [.ref (A 1), .int v1, .int v3] hB hR dX0_fitting_22 cv_X0_176 rfl rfl (Nat.le_of_ble_eq_true rfl) rfl e6 (Nat.zero_le _) (Nat.zero_le _) (fun hp hB => ?_)
    show RnH [] G l mX0_fitting (d + 303) (PV ρ E A r σ1) noX 25 [.ref (A 0), .int v1, .int v2, .int v3] [.int r7] (ov rgM A σ_5 hp) c k
    have hR : σ_5.2.2 0 0 = .ref (ρ.1 2) := by rw [e6.1]; exact hR
    refine R_if_eq 34 dX0_fitting_25 (by decide) (fun c8 => ?_) (fun c8 => ?_)
    · replace h := h.1 c8
      refine S_iinc (v := v3 + 1) (ls1 := [.ref (A 0), .int v1, .int v2, .int (v3 + 1)]) dX0_fitting_34 rfl rfl (by decide) rfl rfl ?_
      refine R_goto 4 dX0_fitting_37 (by decide) ?_
      exact h G l hp hB hR
    · replace h := h.2 c8
      refine R_iload_n dX0_fitting_28 rfl ?_
      refine R_iconst (v := 1) dX0_fitting_29 (by decide) ?_
      refine R_iload_n dX0_fitting_30 rfl ?_
      refine R_ishl dX0_fitting_31 ?_
      refine R_ior dX0_fitting_32 ?_
      refine S_istore_n (ls1 := [.ref (A 0), .int v1, .int (v2 ||| (1 <<< (v3 &&& 31))), .int v3]) dX0_fitting_33 (by decide) rfl rfl ?_
      refine S_iinc (v := v3 + 1) (ls1 := [.ref (A 0), .int v1, .int (v2 ||| (1 <<< (v3 &&& 31))), .int (v3 + 1)]) dX0_fitting_34 rfl rfl (by decide) rfl rfl ?_
      refine R_goto 4 dX0_fitting_37 (by decide) ?_
      exact h G l hp hB hR
theorem gc_X0_goDress_0 {d : Nat} {v1 : Int32} {v2 : Int32} {v3 : Int32} {v4 : Int32} {c k : Nat} {ρ : Rho} {E : Hp → Prop} {A : Nat → Nat} {σ σ1 : Sg} {r : Option Value} (h : ∃ (r3 : Int32) (σ_1 : Sg), Tv ρ E A mX0_men (d + 302) 0 0 [.ref (A 0)] σ (some (.int r3)) σ_1 ∧ (((¬ v1 = r3) → Rv ρ E A mX0_goDress (d + 303) c k 63 [.ref (A 0), .int v1, .int v2, .int v3, .int v4, .int 0] [] σ_1 r σ1) ∧ ((v1 = r3) → ((v3 < (σ_1.1 0 14)) → r = none ∧ σ1 = σ_1) ∧ ((¬ v3 < (σ_1.1 0 14)) → ((¬ v3 = (σ_1.1 0 14)) → Rv ρ E A mX0_goDress (d + 303) c k 34 [.ref (A 0), .int v1, .int v2, .int v3, .int v4, U_] [] σ_1 r σ1) ∧ ((v3 = (σ_1.1 0 14)) → ((v4 < (σ_1.1 0 15)) → Rv ρ E A mX0_goDress (d + 303) c k 34 [.ref (A 0), .int v1, .int v2, .int v3, .int v4, U_] [] σ_1 r σ1) ∧ ((¬ v4 < (σ_1.1 0 15)) → r = none ∧ σ1 = σ_1)))))) : Rv ρ E A mX0_goDress (d + 303) c k 0 [.ref (A 0), .int v1, .int v2, .int v3, .int v4, U_] [] σ r σ1 := by
  intro G l hp hB hR
  refine R_iload_n dX0_goDress_0 rfl ?_
  refine R_aload_n dX0_goDress_1 rfl ?_
  obtain ⟨r3, σ_1, e2, h⟩ := h
  refine V_call (o := 0) [] hB hR dX0_goDress_2 cv_X0_143 rfl rfl (Nat.le_of_ble_eq_true rfl) ⟨by decide, rfl⟩ rfl e2 (Nat.zero_le _) (Nat.zero_le _) (fun hp hB => ?_)
  show RnH [] G l mX0_goDress (d + 303) (PV ρ E A r σ1) noX 5 [.ref (A 0), .int v1, .int v2, .int v3, .int v4, U_] [.int r3, .int v1] (ov rgM A σ_1 hp) c k
  have hR : σ_1.2.2 0 0 = .ref (ρ.1 2) := by rw [e2.1]; exact hR
  refine R_icmp_ne 60 dX0_goDress_5 (by decide) (fun c4 => ?_) (fun c4 => ?_)
  · replace h := h.1 c4
    refine R_iconst (v := 0) dX0_goDress_60 (by decide) ?_
    refine S_istore (ls1 := [.ref (A 0), .int v1, .int v2, .int v3, .int v4, .int 0]) dX0_goDress_61 (by decide) rfl rfl ?_
    exact h G l hp hB hR
  · replace h := h.2 c4
    refine R_iload_n dX0_goDress_8 rfl ?_
    refine R_aload_n dX0_goDress_9 rfl ?_
    refine V_get (o := 0) (x := σ_1.1 0 14) hB.1 dX0_goDress_10 fm_X0_263_1 ⟨by decide, by decide, rfl, rfl⟩ rfl ?_
    refine R_icmp_lt 33 dX0_goDress_13 (by decide) (fun c5 => ?_) (fun c5 => ?_)
    · replace h := h.1 c5
      exact R_vret dX0_goDress_33 rfl ⟨h.1.symm, hp, hB, by rw [h.2]⟩
    · replace h := h.2 c5
      refine R_iload_n dX0_goDress_16 rfl ?_
      refine R_aload_n dX0_goDress_17 rfl ?_
      refine V_get (o := 0) (x := σ_1.1 0 14) hB.1 dX0_goDress_18 fm_X0_263_1 ⟨by decide, by decide, rfl, rfl⟩ rfl ?_
      refine R_icmp_ne 34 dX0_goDress_21 (by decide) (fun c6 => ?_) (fun c6 => ?_)
      · replace h := h.1 c6
        exact h G l hp hB hR
      · replace h := h.2 c6
        refine R_iload dX0_goDress_24 rfl ?_
        refine R_aload_n dX0_goDress_26 rfl ?_
        refine V_get (o := 0) (x := σ_1.1 0 15) hB.1 dX0_goDress_27 fm_X0_266_1 ⟨by decide, by decide, rfl, rfl⟩ rfl ?_
        refine R_icmp_lt 34 dX0_goDress_30 (by decide) (fun c7 => ?_) (fun c7 => ?_)
        · replace h := h.1 c7
          exact h G l hp hB hR
        · replace h := h.2 c7
          exact R_vret dX0_goDress_33 rfl ⟨h.1.symm, hp, hB, by rw [h.2]⟩
theorem gc_X0_goDress_34 {d : Nat} {v1 : Int32} {v2 : Int32} {v3 : Int32} {v4 : Int32} {c k : Nat} {ρ : Rho} {E : Hp → Prop} {A : Nat → Nat} {σ σ1 : Sg} {r : Option Value} (h : (¬ v1 < 0 ∧ v1.toNatClampNeg ≤ 6) ∧ (r = none ∧ σ1 = (upA (upA σ.1 0 (upd (upd (σ.1 0) 14 v3) 15 v4)) 19 (va_cpy (σ.1 20) (σ.1 19) 0 0 v1.toNatClampNeg), σ.2))) : Rv ρ E A mX0_goDress (d + 303) c k 34 [.ref (A 0), .int v1, .int v2, .int v3, .int v4, U_] [] σ r σ1 := by
  intro G l hp hB hR
  refine R_aload_n dX0_goDress_34 rfl ?_
  refine R_iload_n dX0_goDress_35 rfl ?_
  refine V_put (o := 0) (σ9 := (upA σ.1 0 (upd (σ.1 0) 14 v3), σ.2)) hB.1 dX0_goDress_36 fm_X0_263_1 ft_1_14 rfl rfl ⟨by decide, by decide, rfl, rfl⟩ rfl ?_
  refine R_aload_n dX0_goDress_39 rfl ?_
  refine R_iload dX0_goDress_40 rfl ?_
  refine V_put (o := 0) (σ9 := (upA σ.1 0 (upd (upd (σ.1 0) 14 v3) 15 v4), σ.2)) hB.1 dX0_goDress_42 fm_X0_266_1 ft_1_15 rfl rfl ⟨by decide, by decide, rfl, rfl⟩ (up8c σ.1 0 (upd (σ.1 0) 14 v3) (upd (upd (σ.1 0) 14 v3) 15 v4) σ.2) ?_
  refine R_aload_n dX0_goDress_45 rfl ?_
  refine V_geta (o := 0) (q := 20) hB.1 dX0_goDress_46 fm_X0_64_1 ⟨by decide, by decide, rfl, rfl⟩ ?_
  refine R_iconst (v := 0) dX0_goDress_49 (by decide) ?_
  refine R_aload_n dX0_goDress_50 rfl ?_
  refine V_geta (o := 0) (q := 19) hB.1 dX0_goDress_51 fm_X0_60_1 ⟨by decide, by decide, rfl, rfl⟩ ?_
  refine R_iconst (v := 0) dX0_goDress_54 (by decide) ?_
  refine R_iload_n dX0_goDress_55 rfl ?_
  have b1 := h.1
  replace h := h.2
  refine V_copy (o := 20) (q := 19) (σ9 := (upA (upA σ.1 0 (upd (upd (σ.1 0) 14 v3) 15 v4)) 19 (va_cpy (σ.1 20) (σ.1 19) 0 0 v1.toNatClampNeg), σ.2)) hB.1 dX0_goDress_56 q1189 b1.1 b1.2 ⟨by decide, rfl, by decide, rfl⟩ (Nat.le_of_ble_eq_true rfl) rfl ?_
  exact R_vret dX0_goDress_59 rfl ⟨h.1.symm, hp, hB, by rw [h.2]⟩
theorem gc_X0_goDress_63 {d : Nat} {v1 : Int32} {v2 : Int32} {v3 : Int32} {v4 : Int32} {v5 : Int32} {c k : Nat} {ρ : Rho} {E : Hp → Prop} {A : Nat → Nat} {σ σ1 : Sg} {r : Option Value} (h : ∃ (r3 : Int32) (σ_1 : Sg), Tv ρ E A mX0_coats (d + 302) 0 0 [.ref (A 0)] σ (some (.int r3)) σ_1 ∧ (((r3 ≤ v5) → vp_in v1 6 ∧ (∃ (σ_6 : Sg), Tv ρ E A mX0_goDress (d + 302) 0 0 [.ref (A 0), .int (v1 + 1), .int v2, .int v3, .int v4] (upA σ_1.1 20 (upd (σ_1.1 20) v1.toNatClampNeg (-1)), σ_1.2) none σ_6 ∧ (r = none ∧ σ1 = σ_6))) ∧ ((¬ r3 ≤ v5) → ((¬ (s0_has v2 v5) = 0) → Rv ρ E A mX0_goDress (d + 303) c k 63 [.ref (A 0), .int v1, .int v2, .int v3, .int v4, .int (v5 + 1)] [] σ_1 r σ1) ∧ (((s0_has v2 v5) = 0) → ∃ (r11 : Int32) (σ_9 : Sg), Tv ρ E A mX1_fits (d + 302) 0 0 [.ref (ρ.1 2), .ref (A 1), .int v1, .int v5] σ_1 (some (.int r11)) σ_9 ∧ (((¬ r11 = 0) → vp_in v1 6 ∧ (∃ (r16 : Int32) (σ_14 : Sg), Tv ρ E A mX1_misfit (d + 302) 0 0 [.ref (ρ.1 2), .ref (A 1), .int v1, .int v5] (upA σ_9.1 20 (upd (σ_9.1 20) v1.toNatClampNeg v5), σ_9.2) (some (.int r16)) σ_14 ∧ (∃ (σ_17 : Sg), Tv ρ E A mX0_goDress (d + 302) 0 0 [.ref (A 0), .int (v1 + 1), .int (v2 ||| (1 <<< (v5 &&& 31))), .int (v3 + 1), .int (v4 + r16)] σ_14 none σ_17 ∧ (Rv ρ E A mX0_goDress (d + 303) c k 63 [.ref (A 0), .int v1, .int v2, .int v3, .int v4, .int (v5 + 1)] [] σ_17 r σ1)))) ∧ ((r11 = 0) → Rv ρ E A mX0_goDress (d + 303) c k 63 [.ref (A 0), .int v1, .int v2, .int v3, .int v4, .int (v5 + 1)] [] σ_9 r σ1)))))) : Rv ρ E A mX0_goDress (d + 303) c k 63 [.ref (A 0), .int v1, .int v2, .int v3, .int v4, .int v5] [] σ r σ1 := by
  intro G l hp hB hR
  refine R_iload dX0_goDress_63 rfl ?_
  refine R_aload_n dX0_goDress_65 rfl ?_
  obtain ⟨r3, σ_1, e2, h⟩ := h
  refine V_call (o := 0) [] hB hR dX0_goDress_66 cv_X0_149 rfl rfl (Nat.le_of_ble_eq_true rfl) ⟨by decide, rfl⟩ rfl e2 (Nat.zero_le _) (Nat.zero_le _) (fun hp hB => ?_)
  show RnH [] G l mX0_goDress (d + 303) (PV ρ E A r σ1) noX 69 [.ref (A 0), .int v1, .int v2, .int v3, .int v4, .int v5] [.int r3, .int v5] (ov rgM A σ_1 hp) c k
  have hR : σ_1.2.2 0 0 = .ref (ρ.1 2) := by rw [e2.1]; exact hR
  refine R_icmp_ge 148 dX0_goDress_69 (by decide) (fun c4 => ?_) (fun c4 => ?_)
  · replace h := h.1 c4
    refine R_aload_n dX0_goDress_148 rfl ?_
    refine V_geta (o := 0) (q := 20) hB.1 dX0_goDress_149 fm_X0_64_1 ⟨by decide, by decide, rfl, rfl⟩ ?_
    refine R_iload_n dX0_goDress_152 rfl ?_
    refine R_iconst (v := (-1)) dX0_goDress_153 (by decide) ?_
    have b5 := h.1
    replace h := h.2
    refine V_iast (o := 20) (σ9 := (upA σ_1.1 20 (upd (σ_1.1 20) v1.toNatClampNeg (-1)), σ_1.2)) hB.1 dX0_goDress_154 ⟨by decide, rfl⟩ b5 rfl ?_
    refine R_aload_n dX0_goDress_155 rfl ?_
    refine R_iload_n dX0_goDress_156 rfl ?_
    refine R_iconst (v := 1) dX0_goDress_157 (by decide) ?_
    refine R_iadd dX0_goDress_158 ?_
    refine R_iload_n dX0_goDress_159 rfl ?_
    refine R_iload_n dX0_goDress_160 rfl ?_
    refine R_iload dX0_goDress_161 rfl ?_
    obtain ⟨σ_6, e7, h⟩ := h
    refine V_call (o := 0) [.int (v1 + 1), .int v2, .int v3, .int v4] hB hR dX0_goDress_163 cv_X0_275 rfl rfl (Nat.le_of_ble_eq_true rfl) ⟨by decide, rfl⟩ rfl e7 (Nat.zero_le _) (Nat.zero_le _) (fun hp hB => ?_)
    show RnH [] G l mX0_goDress (d + 303) (PV ρ E A r σ1) noX 166 [.ref (A 0), .int v1, .int v2, .int v3, .int v4, .int v5] [] (ov rgM A σ_6 hp) c k
    have hR : σ_6.2.2 0 0 = .ref (ρ.1 2) := by rw [e7.1]; exact hR
    exact R_vret dX0_goDress_166 rfl ⟨h.1.symm, hp, hB, by rw [h.2]⟩
  · replace h := h.2 c4
    refine R_iload_n dX0_goDress_72 rfl ?_
    refine R_iload dX0_goDress_73 rfl ?_
    refine V_callS [.int v2, .int v5] dX0_goDress_75 cs_X0_239 rfl rfl (Nat.le_of_ble_eq_true rfl) (s0t_has (d + 301) v2 v5) ?_
    show RnH [] G l mX0_goDress (d + 303) (PV ρ E A r σ1) noX 78 [.ref (A 0), .int v1, .int v2, .int v3, .int v4, .int v5] [.int (s0_has v2 v5)] (ov rgM A σ_1 hp) c k
    refine R_if_ne 142 dX0_goDress_78 (by decide) (fun c8 => ?_) (fun c8 => ?_)
    · replace h := h.1 c8
      refine S_iinc (v := v5 + 1) (ls1 := [.ref (A 0), .int v1, .int v2, .int v3, .int v4, .int (v5 + 1)]) dX0_goDress_142 rfl rfl (by decide) rfl rfl ?_
      refine R_goto 63 dX0_goDress_145 (by decide) ?_
      exact h G l hp hB hR
    · replace h := h.2 c8
      refine R_aload_n dX0_goDress_81 rfl ?_
      refine V_getr (o := 0) (v := .ref (ρ.1 2)) hB.1 dX0_goDress_82 fm_X0_19_1 ⟨by decide, by decide, rfl, rfl⟩ hR ?_
      refine R_aload_n dX0_goDress_85 rfl ?_
      refine V_geta (o := 0) (q := 1) hB.1 dX0_goDress_86 fm_X0_28_1 ⟨by decide, by decide, rfl, rfl⟩ ?_
      refine R_iload_n dX0_goDress_89 rfl ?_
      refine R_iload dX0_goDress_90 rfl ?_
      obtain ⟨r11, σ_9, e10, h⟩ := h
      refine V_callR [.ref (A 1), .int v1, .int v5] hB hR dX0_goDress_92 cv_X0_176 rfl rfl (Nat.le_of_ble_eq_true rfl) rfl e10 (Nat.zero_le _) (Nat.zero_le _) (fun hp hB => ?_)
      show RnH [] G l mX0_goDress (d + 303) (PV ρ E A r σ1) noX 95 [.ref (A 0), .int v1, .int v2, .int v3, .int v4, .int v5] [.int r11] (ov rgM A σ_9 hp) c k
      have hR : σ_9.2.2 0 0 = .ref (ρ.1 2) := by rw [e10.1]; exact hR
      refine R_if_ne 101 dX0_goDress_95 (by decide) (fun c12 => ?_) (fun c12 => ?_)
      · replace h := h.1 c12
        refine R_aload_n dX0_goDress_101 rfl ?_
        refine V_geta (o := 0) (q := 20) hB.1 dX0_goDress_102 fm_X0_64_1 ⟨by decide, by decide, rfl, rfl⟩ ?_
        refine R_iload_n dX0_goDress_105 rfl ?_
        refine R_iload dX0_goDress_106 rfl ?_
        have b13 := h.1
        replace h := h.2
        refine V_iast (o := 20) (σ9 := (upA σ_9.1 20 (upd (σ_9.1 20) v1.toNatClampNeg v5), σ_9.2)) hB.1 dX0_goDress_108 ⟨by decide, rfl⟩ b13 rfl ?_
        refine R_aload_n dX0_goDress_109 rfl ?_
        refine R_iload_n dX0_goDress_110 rfl ?_
        refine R_iconst (v := 1) dX0_goDress_111 (by decide) ?_
        refine R_iadd dX0_goDress_112 ?_
        refine R_iload_n dX0_goDress_113 rfl ?_
        refine R_iconst (v := 1) dX0_goDress_114 (by decide) ?_
        refine R_iload dX0_goDress_115 rfl ?_
        refine R_ishl dX0_goDress_117 ?_
        refine R_ior dX0_goDress_118 ?_
        refine R_iload_n dX0_goDress_119 rfl ?_
        refine R_iconst (v := 1) dX0_goDress_120 (by decide) ?_
        refine R_iadd dX0_goDress_121 ?_
        refine R_iload dX0_goDress_122 rfl ?_
        refine R_aload_n dX0_goDress_124 rfl ?_
        refine V_getr (o := 0) (v := .ref (ρ.1 2)) hB.1 dX0_goDress_125 fm_X0_19_1 ⟨by decide, by decide, rfl, rfl⟩ hR ?_
        refine R_aload_n dX0_goDress_128 rfl ?_
        refine V_geta (o := 0) (q := 1) hB.1 dX0_goDress_129 fm_X0_28_1 ⟨by decide, by decide, rfl, rfl⟩ ?_
        refine R_iload_n dX0_goDress_132 rfl ?_
        refine R_iload dX0_goDress_133 rfl ?_
        obtain ⟨r16, σ_14, e15, h⟩ := h
        refine V_callR [.ref (A 1), .int v1, .int v5] hB hR dX0_goDress_135 cv_X0_225 rfl rfl (Nat.le_of_ble_eq_true rfl) rfl e15 (Nat.zero_le _) (Nat.zero_le _) (fun hp hB => ?_)
        show RnH [] G l mX0_goDress (d + 303) (PV ρ E A r σ1) noX 138 [.ref (A 0), .int v1, .int v2, .int v3, .int v4, .int v5] [.int r16, .int v4, .int (v3 + 1), .int (v2 ||| (1 <<< (v5 &&& 31))), .int (v1 + 1), .ref (A 0)] (ov rgM A σ_14 hp) c k
        have hR : σ_14.2.2 0 0 = .ref (ρ.1 2) := by rw [e15.1]; exact hR
        refine R_iadd dX0_goDress_138 ?_
        obtain ⟨σ_17, e18, h⟩ := h
        refine V_call (o := 0) [.int (v1 + 1), .int (v2 ||| (1 <<< (v5 &&& 31))), .int (v3 + 1), .int (v4 + r16)] hB hR dX0_goDress_139 cv_X0_275 rfl rfl (Nat.le_of_ble_eq_true rfl) ⟨by decide, rfl⟩ rfl e18 (Nat.zero_le _) (Nat.zero_le _) (fun hp hB => ?_)
        show RnH [] G l mX0_goDress (d + 303) (PV ρ E A r σ1) noX 142 [.ref (A 0), .int v1, .int v2, .int v3, .int v4, .int v5] [] (ov rgM A σ_17 hp) c k
        have hR : σ_17.2.2 0 0 = .ref (ρ.1 2) := by rw [e18.1]; exact hR
        refine S_iinc (v := v5 + 1) (ls1 := [.ref (A 0), .int v1, .int v2, .int v3, .int v4, .int (v5 + 1)]) dX0_goDress_142 rfl rfl (by decide) rfl rfl ?_
        refine R_goto 63 dX0_goDress_145 (by decide) ?_
        exact h G l hp hB hR
      · replace h := h.2 c12
        refine R_goto 142 dX0_goDress_98 (by decide) ?_
        refine S_iinc (v := v5 + 1) (ls1 := [.ref (A 0), .int v1, .int v2, .int v3, .int v4, .int (v5 + 1)]) dX0_goDress_142 rfl rfl (by decide) rfl rfl ?_
        refine R_goto 63 dX0_goDress_145 (by decide) ?_
        exact h G l hp hB hR
theorem gc_X0_layFits_0 {d : Nat} {c k : Nat} {ρ : Rho} {E : Hp → Prop} {A : Nat → Nat} {σ σ1 : Sg} {r : Option Value} (h : Rv ρ E A mX0_layFits (d + 303) c k 2 [.ref (A 0), .int 0, U_] [] σ r σ1) : Rv ρ E A mX0_layFits (d + 303) c k 0 [.ref (A 0), U_, U_] [] σ r σ1 := by
  intro G l hp hB hR
  refine R_iconst (v := 0) dX0_layFits_0 (by decide) ?_
  refine S_istore_n (ls1 := [.ref (A 0), .int 0, U_]) dX0_layFits_1 (by decide) rfl rfl ?_
  exact h G l hp hB hR
theorem gc_X0_layFits_2 {d : Nat} {v1 : Int32} {c k : Nat} {ρ : Rho} {E : Hp → Prop} {A : Nat → Nat} {σ σ1 : Sg} {r : Option Value} (h : ((30 < v1) → r = none ∧ σ1 = σ) ∧ ((¬ 30 < v1) → Rv ρ E A mX0_layFits (d + 303) c k 10 [.ref (A 0), .int v1, .int 0] [] σ r σ1)) : Rv ρ E A mX0_layFits (d + 303) c k 2 [.ref (A 0), .int v1, U_] [] σ r σ1 := by
  intro G l hp hB hR
  refine R_iload_n dX0_layFits_2 rfl ?_
  refine R_bipush (v := 30) dX0_layFits_3 (by decide) ?_
  refine R_icmp_gt 123 dX0_layFits_5 (by decide) (fun c1 => ?_) (fun c1 => ?_)
  · replace h := h.1 c1
    exact R_vret dX0_layFits_123 rfl ⟨h.1.symm, hp, hB, by rw [h.2]⟩
  · replace h := h.2 c1
    refine R_iconst (v := 0) dX0_layFits_8 (by decide) ?_
    refine S_istore_n (ls1 := [.ref (A 0), .int v1, .int 0]) dX0_layFits_9 (by decide) rfl rfl ?_
    exact h G l hp hB hR
theorem gc_X0_layFits_10 {d : Nat} {v1 : Int32} {v2 : Int32} {c k : Nat} {ρ : Rho} {E : Hp → Prop} {A : Nat → Nat} {σ σ1 : Sg} {r : Option Value} (h : ((20 < v2) → Rv ρ E A mX0_layFits (d + 303) c k 2 [.ref (A 0), .int (v1 + 1), U_] [] σ r σ1) ∧ ((¬ 20 < v2) → ∃ (σ_2 : Sg), Tv ρ E A mX2_begin (d + 302) 0 0 [.ref (A 8), .ref (ρ.1 2)] σ none σ_2 ∧ (∃ (r6 : Int32) (σ_4 : Sg), Tv ρ E A mX1_fits (d + 302) 0 0 [.ref (ρ.1 2), .ref (A 8), .int 0, .int 0] (upA (upA (upA σ_2.1 9 (upd (σ_2.1 9) 0 (sj_min 99 ((σ_2.1 9 0) + (v1 * v2))))) 14 (upd (σ_2.1 14) 0 (sj_min 99 ((σ_2.1 14 0) + v2)))) 8 (upd (σ_2.1 8) 7 v2), σ_2.2) (some (.int r6)) σ_4 ∧ (vp_in ((21 * v1) + v2) 651 ∧ isB r6 ∧ (Rv ρ E A mX0_layFits (d + 303) c k 10 [.ref (A 0), .int v1, .int (v2 + 1)] [] (upA σ_4.1 25 (upd (σ_4.1 25) ((21 * v1) + v2).toNatClampNeg r6), σ_4.2) r σ1))))) : Rv ρ E A mX0_layFits (d + 303) c k 10 [.ref (A 0), .int v1, .int v2] [] σ r σ1 := by
  intro G l hp hB hR
  refine R_iload_n dX0_layFits_10 rfl ?_
  refine R_bipush (v := 20) dX0_layFits_11 (by decide) ?_
  refine R_icmp_gt 117 dX0_layFits_13 (by decide) (fun c1 => ?_) (fun c1 => ?_)
  · replace h := h.1 c1
    refine S_iinc (v := v1 + 1) (ls1 := [.ref (A 0), .int (v1 + 1), .int v2]) dX0_layFits_117 rfl rfl (by decide) rfl rfl ?_
    refine R_goto 2 dX0_layFits_120 (by decide) ?_
    refine R_drop 2 ?_
    exact h G l hp hB hR
  · replace h := h.2 c1
    refine R_aload_n dX0_layFits_16 rfl ?_
    refine V_geta (o := 0) (q := 8) hB.1 dX0_layFits_17 fm_X0_32_1 ⟨by decide, by decide, rfl, rfl⟩ ?_
    refine R_aload_n dX0_layFits_20 rfl ?_
    refine V_getr (o := 0) (v := .ref (ρ.1 2)) hB.1 dX0_layFits_21 fm_X0_19_1 ⟨by decide, by decide, rfl, rfl⟩ hR ?_
    obtain ⟨σ_2, e3, h⟩ := h
    refine V_call (o := 8) [.ref (ρ.1 2)] hB hR dX0_layFits_24 cv_X0_105 rfl rfl (Nat.le_of_ble_eq_true rfl) ⟨by decide, rfl⟩ rfl e3 (Nat.zero_le _) (Nat.zero_le _) (fun hp hB => ?_)
    show RnH [] G l mX0_layFits (d + 303) (PV ρ E A r σ1) noX 27 [.ref (A 0), .int v1, .int v2] [] (ov rgM A σ_2 hp) c k
    have hR : σ_2.2.2 0 0 = .ref (ρ.1 2) := by rw [e3.1]; exact hR
    refine R_aload_n dX0_layFits_27 rfl ?_
    refine V_geta (o := 0) (q := 8) hB.1 dX0_layFits_28 fm_X0_32_1 ⟨by decide, by decide, rfl, rfl⟩ ?_
    refine V_geta (o := 8) (q := 9) hB.1 dX0_layFits_31 fm_X0_192_3 ⟨by decide, by decide, rfl, rfl⟩ ?_
    refine R_iconst (v := 0) dX0_layFits_34 (by decide) ?_
    refine R_bipush (v := 99) dX0_layFits_35 (by decide) ?_
    refine R_aload_n dX0_layFits_37 rfl ?_
    refine V_geta (o := 0) (q := 8) hB.1 dX0_layFits_38 fm_X0_32_1 ⟨by decide, by decide, rfl, rfl⟩ ?_
    refine V_geta (o := 8) (q := 9) hB.1 dX0_layFits_41 fm_X0_192_3 ⟨by decide, by decide, rfl, rfl⟩ ?_
    refine R_iconst (v := 0) dX0_layFits_44 (by decide) ?_
    refine V_iald (o := 9) (x := σ_2.1 9 0) hB.1 dX0_layFits_45 ⟨by decide, rfl⟩ (by unfold vp_in; decide) rfl ?_
    refine R_iload_n dX0_layFits_46 rfl ?_
    refine R_iload_n dX0_layFits_47 rfl ?_
    refine R_imul dX0_layFits_48 ?_
    refine R_iadd dX0_layFits_49 ?_
    refine R_mmin dX0_layFits_50 q1047 (Nat.le_of_ble_eq_true rfl) ?_
    refine V_iast (o := 9) (σ9 := (upA σ_2.1 9 (upd (σ_2.1 9) 0 (sj_min 99 ((σ_2.1 9 0) + (v1 * v2)))), σ_2.2)) hB.1 dX0_layFits_53 ⟨by decide, rfl⟩ (by unfold vp_in; decide) rfl ?_
    refine R_aload_n dX0_layFits_54 rfl ?_
    refine V_geta (o := 0) (q := 8) hB.1 dX0_layFits_55 fm_X0_32_1 ⟨by decide, by decide, rfl, rfl⟩ ?_
    refine V_geta (o := 8) (q := 14) hB.1 dX0_layFits_58 fm_X0_216_3 ⟨by decide, by decide, rfl, rfl⟩ ?_
    refine R_iconst (v := 0) dX0_layFits_61 (by decide) ?_
    refine R_bipush (v := 99) dX0_layFits_62 (by decide) ?_
    refine R_aload_n dX0_layFits_64 rfl ?_
    refine V_geta (o := 0) (q := 8) hB.1 dX0_layFits_65 fm_X0_32_1 ⟨by decide, by decide, rfl, rfl⟩ ?_
    refine V_geta (o := 8) (q := 14) hB.1 dX0_layFits_68 fm_X0_216_3 ⟨by decide, by decide, rfl, rfl⟩ ?_
    refine R_iconst (v := 0) dX0_layFits_71 (by decide) ?_
    refine V_iald (o := 14) (x := σ_2.1 14 0) hB.1 dX0_layFits_72 ⟨by decide, rfl⟩ (by unfold vp_in; decide) rfl ?_
    refine R_iload_n dX0_layFits_73 rfl ?_
    refine R_iadd dX0_layFits_74 ?_
    refine R_mmin dX0_layFits_75 q1047 (Nat.le_of_ble_eq_true rfl) ?_
    refine V_iast (o := 14) (σ9 := (upA (upA σ_2.1 9 (upd (σ_2.1 9) 0 (sj_min 99 ((σ_2.1 9 0) + (v1 * v2))))) 14 (upd (σ_2.1 14) 0 (sj_min 99 ((σ_2.1 14 0) + v2))), σ_2.2)) hB.1 dX0_layFits_78 ⟨by decide, rfl⟩ (by unfold vp_in; decide) rfl ?_
    refine R_aload_n dX0_layFits_79 rfl ?_
    refine V_geta (o := 0) (q := 8) hB.1 dX0_layFits_80 fm_X0_32_1 ⟨by decide, by decide, rfl, rfl⟩ ?_
    refine R_iload_n dX0_layFits_83 rfl ?_
    refine V_put (o := 8) (σ9 := (upA (upA (upA σ_2.1 9 (upd (σ_2.1 9) 0 (sj_min 99 ((σ_2.1 9 0) + (v1 * v2))))) 14 (upd (σ_2.1 14) 0 (sj_min 99 ((σ_2.1 14 0) + v2)))) 8 (upd (σ_2.1 8) 7 v2), σ_2.2)) hB.1 dX0_layFits_84 fm_X0_229_3 ft_3_7 rfl rfl ⟨by decide, by decide, rfl, rfl⟩ rfl ?_
    refine R_aload_n dX0_layFits_87 rfl ?_
    refine V_geta (o := 0) (q := 25) hB.1 dX0_layFits_88 fm_X0_89_1 ⟨by decide, by decide, rfl, rfl⟩ ?_
    refine R_bipush (v := 21) dX0_layFits_91 (by decide) ?_
    refine R_iload_n dX0_layFits_93 rfl ?_
    refine R_imul dX0_layFits_94 ?_
    refine R_iload_n dX0_layFits_95 rfl ?_
    refine R_iadd dX0_layFits_96 ?_
    refine R_aload_n dX0_layFits_97 rfl ?_
    refine V_getr (o := 0) (v := .ref (ρ.1 2)) hB.1 dX0_layFits_98 fm_X0_19_1 ⟨by decide, by decide, rfl, rfl⟩ hR ?_
    refine R_aload_n dX0_layFits_101 rfl ?_
    refine V_geta (o := 0) (q := 8) hB.1 dX0_layFits_102 fm_X0_32_1 ⟨by decide, by decide, rfl, rfl⟩ ?_
    refine R_iconst (v := 0) dX0_layFits_105 (by decide) ?_
    refine R_iconst (v := 0) dX0_layFits_106 (by decide) ?_
    obtain ⟨r6, σ_4, e5, h⟩ := h
    refine V_callR [.ref (A 8), .int 0, .int 0] hB hR dX0_layFits_107 cv_X0_176 rfl rfl (Nat.le_of_ble_eq_true rfl) rfl e5 (Nat.zero_le _) (Nat.zero_le _) (fun hp hB => ?_)
    show RnH [] G l mX0_layFits (d + 303) (PV ρ E A r σ1) noX 110 [.ref (A 0), .int v1, .int v2] [.int r6, .int ((21 * v1) + v2), .ref (A 25)] (ov rgM A σ_4 hp) c k
    have hR : σ_4.2.2 0 0 = .ref (ρ.1 2) := by rw [e5.1]; exact hR
    have b7 := h.1
    replace h := h.2
    have b8 := h.1
    replace h := h.2
    refine V_zast (o := 25) (σ9 := (upA σ_4.1 25 (upd (σ_4.1 25) ((21 * v1) + v2).toNatClampNeg r6), σ_4.2)) hB.1 dX0_layFits_110 ⟨by decide, rfl⟩ b8 b7 rfl ?_
    refine S_iinc (v := v2 + 1) (ls1 := [.ref (A 0), .int v1, .int (v2 + 1)]) dX0_layFits_111 rfl rfl (by decide) rfl rfl ?_
    refine R_goto 10 dX0_layFits_114 (by decide) ?_
    exact h G l hp hB hR
theorem gc_X0_popular_0 {d : Nat} {v1 : Int32} {c k : Nat} {ρ : Rho} {E : Hp → Prop} {A : Nat → Nat} {σ σ1 : Sg} {r : Option Value} (h : ∃ (r3 : Int32) (σ_1 : Sg), Tv ρ E A mX0_isCoat (d + 302) 0 0 [.ref (A 0), .int v1] σ (some (.int r3)) σ_1 ∧ (((¬ r3 = 0) → Rv ρ E A mX0_popular (d + 303) c k 14 [.ref (A 0), .int v1, .int 0, .int 0] [] σ_1 r σ1) ∧ ((r3 = 0) → r = some (.int (-1)) ∧ σ1 = σ_1))) : Rv ρ E A mX0_popular (d + 303) c k 0 [.ref (A 0), .int v1, U_, U_] [] σ r σ1 := by
  intro G l hp hB hR
  refine R_aload_n dX0_popular_0 rfl ?_
  refine R_iload_n dX0_popular_1 rfl ?_
  obtain ⟨r3, σ_1, e2, h⟩ := h
  refine V_call (o := 0) [.int v1] hB hR dX0_popular_2 cv_X0_205 rfl rfl (Nat.le_of_ble_eq_true rfl) ⟨by decide, rfl⟩ rfl e2 (Nat.zero_le _) (Nat.zero_le _) (fun hp hB => ?_)
  show RnH [] G l mX0_popular (d + 303) (PV ρ E A r σ1) noX 5 [.ref (A 0), .int v1, U_, U_] [.int r3] (ov rgM A σ_1 hp) c k
  have hR : σ_1.2.2 0 0 = .ref (ρ.1 2) := by rw [e2.1]; exact hR
  refine R_if_ne 10 dX0_popular_5 (by decide) (fun c4 => ?_) (fun c4 => ?_)
  · replace h := h.1 c4
    refine R_iconst (v := 0) dX0_popular_10 (by decide) ?_
    refine S_istore_n (ls1 := [.ref (A 0), .int v1, .int 0, U_]) dX0_popular_11 (by decide) rfl rfl ?_
    refine R_iconst (v := 0) dX0_popular_12 (by decide) ?_
    refine S_istore_n (ls1 := [.ref (A 0), .int v1, .int 0, .int 0]) dX0_popular_13 (by decide) rfl rfl ?_
    exact h G l hp hB hR
  · replace h := h.2 c4
    refine R_iconst (v := (-1)) dX0_popular_8 (by decide) ?_
    exact R_iret dX0_popular_9 rfl rfl ⟨h.1.symm, hp, hB, by rw [h.2]⟩
theorem gc_X0_popular_14 {d : Nat} {v1 : Int32} {v2 : Int32} {v3 : Int32} {c k : Nat} {ρ : Rho} {E : Hp → Prop} {A : Nat → Nat} {σ σ1 : Sg} {r : Option Value} (h : ∃ (r3 : Int32) (σ_1 : Sg), Tv ρ E A mX0_men (d + 302) 0 0 [.ref (A 0)] σ (some (.int r3)) σ_1 ∧ (((r3 ≤ v3) → r = some (.int v2) ∧ σ1 = σ_1) ∧ ((¬ r3 ≤ v3) → ∃ (r7 : Int32) (σ_5 : Sg), Tv ρ E A mX1_fits (d + 302) 0 0 [.ref (ρ.1 2), .ref (A 1), .int v3, .int v1] σ_1 (some (.int r7)) σ_5 ∧ (Rv ρ E A mX0_popular (d + 303) c k 14 [.ref (A 0), .int v1, .int (v2 + (if r7 = 0 then 0 else 1)), .int (v3 + 1)] [] σ_5 r σ1)))) : Rv ρ E A mX0_popular (d + 303) c k 14 [.ref (A 0), .int v1, .int v2, .int v3] [] σ r σ1 := by
  intro G l hp hB hR
  refine R_iload_n dX0_popular_14 rfl ?_
  refine R_aload_n dX0_popular_15 rfl ?_
  obtain ⟨r3, σ_1, e2, h⟩ := h
  refine V_call (o := 0) [] hB hR dX0_popular_16 cv_X0_143 rfl rfl (Nat.le_of_ble_eq_true rfl) ⟨by decide, rfl⟩ rfl e2 (Nat.zero_le _) (Nat.zero_le _) (fun hp hB => ?_)
  show RnH [] G l mX0_popular (d + 303) (PV ρ E A r σ1) noX 19 [.ref (A 0), .int v1, .int v2, .int v3] [.int r3, .int v3] (ov rgM A σ_1 hp) c k
  have hR : σ_1.2.2 0 0 = .ref (ρ.1 2) := by rw [e2.1]; exact hR
  refine R_icmp_ge 52 dX0_popular_19 (by decide) (fun c4 => ?_) (fun c4 => ?_)
  · replace h := h.1 c4
    refine R_iload_n dX0_popular_52 rfl ?_
    exact R_iret dX0_popular_53 rfl rfl ⟨h.1.symm, hp, hB, by rw [h.2]⟩
  · replace h := h.2 c4
    refine R_iload_n dX0_popular_22 rfl ?_
    refine R_aload_n dX0_popular_23 rfl ?_
    refine V_getr (o := 0) (v := .ref (ρ.1 2)) hB.1 dX0_popular_24 fm_X0_19_1 ⟨by decide, by decide, rfl, rfl⟩ hR ?_
    refine R_aload_n dX0_popular_27 rfl ?_
    refine V_geta (o := 0) (q := 1) hB.1 dX0_popular_28 fm_X0_28_1 ⟨by decide, by decide, rfl, rfl⟩ ?_
    refine R_iload_n dX0_popular_31 rfl ?_
    refine R_iload_n dX0_popular_32 rfl ?_
    obtain ⟨r7, σ_5, e6, h⟩ := h
    refine V_callR [.ref (A 1), .int v3, .int v1] hB hR dX0_popular_33 cv_X0_176 rfl rfl (Nat.le_of_ble_eq_true rfl) rfl e6 (Nat.zero_le _) (Nat.zero_le _) (fun hp hB => ?_)
    show RnH [] G l mX0_popular (d + 303) (PV ρ E A r σ1) noX 36 [.ref (A 0), .int v1, .int v2, .int v3] [.int r7, .int v2] (ov rgM A σ_5 hp) c k
    have hR : σ_5.2.2 0 0 = .ref (ρ.1 2) := by rw [e6.1]; exact hR
    have J8 : RnH [] G l mX0_popular (d + 303) (PV ρ E A r σ1) noX 44 [.ref (A 0), .int v1, .int v2, .int v3] [.int (if r7 = 0 then 0 else 1), .int v2] (ov rgM A σ_5 hp) c k := by
      refine R_iadd dX0_popular_44 ?_
      refine S_istore_n (ls1 := [.ref (A 0), .int v1, .int (v2 + (if r7 = 0 then 0 else 1)), .int v3]) dX0_popular_45 (by decide) rfl rfl ?_
      refine S_iinc (v := v3 + 1) (ls1 := [.ref (A 0), .int v1, .int (v2 + (if r7 = 0 then 0 else 1)), .int (v3 + 1)]) dX0_popular_46 rfl rfl (by decide) rfl rfl ?_
      refine R_goto 14 dX0_popular_49 (by decide) ?_
      exact h G l hp hB hR
    refine R_if_eq 43 dX0_popular_36 (by decide) (fun c9 => ?_) (fun c9 => ?_)
    · refine R_iconst (v := 0) dX0_popular_43 (by decide) ?_
      simp only [if_pos c9] at J8
      first | exact J8 | (simp only [if_pos c9]; exact J8)
    · refine R_iconst (v := 1) dX0_popular_39 (by decide) ?_
      refine R_goto 44 dX0_popular_40 (by decide) ?_
      simp only [if_neg c9] at J8
      first | exact J8 | (simp only [if_neg c9]; exact J8)
theorem gc_X0_rests_0 {d : Nat} {v1 : Int32} {v2 : Int32} {v3 : Int32} {v4 : Int32} {c k : Nat} {ρ : Rho} {E : Hp → Prop} {A : Nat → Nat} {σ σ1 : Sg} {r : Option Value} (h : Rv ρ E A mX0_rests (d + 303) c k 3 [.ref (A 0), .int v1, .int v2, .int v3, .int v4, .int 0] [] σ r σ1) : Rv ρ E A mX0_rests (d + 303) c k 0 [.ref (A 0), .int v1, .int v2, .int v3, .int v4, U_] [] σ r σ1 := by
  intro G l hp hB hR
  refine R_iconst (v := 0) dX0_rests_0 (by decide) ?_
  refine S_istore (ls1 := [.ref (A 0), .int v1, .int v2, .int v3, .int v4, .int 0]) dX0_rests_1 (by decide) rfl rfl ?_
  exact h G l hp hB hR
theorem gc_X0_rests_3 {d : Nat} {v1 : Int32} {v2 : Int32} {v3 : Int32} {v4 : Int32} {v5 : Int32} {c k : Nat} {ρ : Rho} {E : Hp → Prop} {A : Nat → Nat} {σ σ1 : Sg} {r : Option Value} (h : ∃ (r3 : Int32) (σ_1 : Sg), Tv ρ E A mX0_coats (d + 302) 0 0 [.ref (A 0)] σ (some (.int r3)) σ_1 ∧ (((r3 ≤ v5) → r = some (.int 1) ∧ σ1 = σ_1) ∧ ((¬ r3 ≤ v5) → ∃ (r7 : Int32) (σ_5 : Sg), Tv ρ E A mX2_wearer (d + 302) 0 0 [.ref (A 1), .int v5] σ_1 (some (.int r7)) σ_5 ∧ (((r7 < 0) → ∃ (r11 : Int32) (σ_9 : Sg), Tv ρ E A mX0_gets (d + 302) 0 0 [.ref (A 0), .int v1, .int v5, .int v4] σ_5 (some (.int r11)) σ_9 ∧ (∃ (r14 : Int32) (σ_12 : Sg), Tv ρ E A mX0_gets (d + 302) 0 0 [.ref (A 0), .int v1, .int v3, .int v4] σ_9 (some (.int r14)) σ_12 ∧ (((r11 < r14) → r = some (.int 0) ∧ σ1 = σ_12) ∧ ((¬ r11 < r14) → ∃ (r18 : Int32) (σ_16 : Sg), Tv ρ E A mX0_gets (d + 302) 0 0 [.ref (A 0), .int v2, .int v5, .int v3] σ_12 (some (.int r18)) σ_16 ∧ (∃ (r21 : Int32) (σ_19 : Sg), Tv ρ E A mX0_gets (d + 302) 0 0 [.ref (A 0), .int v2, .int v4, .int v3] σ_16 (some (.int r21)) σ_19 ∧ (((r21 ≤ r18) → Rv ρ E A mX0_rests (d + 303) c k 3 [.ref (A 0), .int v1, .int v2, .int v3, .int v4, .int (v5 + 1)] [] σ_19 r σ1) ∧ ((¬ r21 ≤ r18) → r = some (.int 0) ∧ σ1 = σ_19))))))) ∧ ((¬ r7 < 0) → Rv ρ E A mX0_rests (d + 303) c k 3 [.ref (A 0), .int v1, .int v2, .int v3, .int v4, .int (v5 + 1)] [] σ_5 r σ1))))) : Rv ρ E A mX0_rests (d + 303) c k 3 [.ref (A 0), .int v1, .int v2, .int v3, .int v4, .int v5] [] σ r σ1 := by
  intro G l hp hB hR
  refine R_iload dX0_rests_3 rfl ?_
  refine R_aload_n dX0_rests_5 rfl ?_
  obtain ⟨r3, σ_1, e2, h⟩ := h
  refine V_call (o := 0) [] hB hR dX0_rests_6 cv_X0_149 rfl rfl (Nat.le_of_ble_eq_true rfl) ⟨by decide, rfl⟩ rfl e2 (Nat.zero_le _) (Nat.zero_le _) (fun hp hB => ?_)
  show RnH [] G l mX0_rests (d + 303) (PV ρ E A r σ1) noX 9 [.ref (A 0), .int v1, .int v2, .int v3, .int v4, .int v5] [.int r3, .int v5] (ov rgM A σ_1 hp) c k
  have hR : σ_1.2.2 0 0 = .ref (ρ.1 2) := by rw [e2.1]; exact hR
  refine R_icmp_ge 74 dX0_rests_9 (by decide) (fun c4 => ?_) (fun c4 => ?_)
  · replace h := h.1 c4
    refine R_iconst (v := 1) dX0_rests_74 (by decide) ?_
    exact R_iret dX0_rests_75 rfl rfl ⟨h.1.symm, hp, hB, by rw [h.2]⟩
  · replace h := h.2 c4
    refine R_aload_n dX0_rests_12 rfl ?_
    refine V_geta (o := 0) (q := 1) hB.1 dX0_rests_13 fm_X0_28_1 ⟨by decide, by decide, rfl, rfl⟩ ?_
    refine R_iload dX0_rests_16 rfl ?_
    obtain ⟨r7, σ_5, e6, h⟩ := h
    refine V_call (o := 1) [.int v5] hB hR dX0_rests_18 cv_X0_222 rfl rfl (Nat.le_of_ble_eq_true rfl) ⟨by decide, rfl⟩ rfl e6 (Nat.zero_le _) (Nat.zero_le _) (fun hp hB => ?_)
    show RnH [] G l mX0_rests (d + 303) (PV ρ E A r σ1) noX 21 [.ref (A 0), .int v1, .int v2, .int v3, .int v4, .int v5] [.int r7] (ov rgM A σ_5 hp) c k
    have hR : σ_5.2.2 0 0 = .ref (ρ.1 2) := by rw [e6.1]; exact hR
    refine R_if_lt 27 dX0_rests_21 (by decide) (fun c8 => ?_) (fun c8 => ?_)
    · replace h := h.1 c8
      refine R_aload_n dX0_rests_27 rfl ?_
      refine R_iload_n dX0_rests_28 rfl ?_
      refine R_iload dX0_rests_29 rfl ?_
      refine R_iload dX0_rests_31 rfl ?_
      obtain ⟨r11, σ_9, e10, h⟩ := h
      refine V_call (o := 0) [.int v1, .int v5, .int v4] hB hR dX0_rests_33 cv_X0_324 rfl rfl (Nat.le_of_ble_eq_true rfl) ⟨by decide, rfl⟩ rfl e10 (Nat.zero_le _) (Nat.zero_le _) (fun hp hB => ?_)
      show RnH [] G l mX0_rests (d + 303) (PV ρ E A r σ1) noX 36 [.ref (A 0), .int v1, .int v2, .int v3, .int v4, .int v5] [.int r11] (ov rgM A σ_9 hp) c k
      have hR : σ_9.2.2 0 0 = .ref (ρ.1 2) := by rw [e10.1]; exact hR
      refine R_aload_n dX0_rests_36 rfl ?_
      refine R_iload_n dX0_rests_37 rfl ?_
      refine R_iload_n dX0_rests_38 rfl ?_
      refine R_iload dX0_rests_39 rfl ?_
      obtain ⟨r14, σ_12, e13, h⟩ := h
      refine V_call (o := 0) [.int v1, .int v3, .int v4] hB hR dX0_rests_41 cv_X0_324 rfl rfl (Nat.le_of_ble_eq_true rfl) ⟨by decide, rfl⟩ rfl e13 (Nat.zero_le _) (Nat.zero_le _) (fun hp hB => ?_)
      show RnH [] G l mX0_rests (d + 303) (PV ρ E A r σ1) noX 44 [.ref (A 0), .int v1, .int v2, .int v3, .int v4, .int v5] [.int r14, .int r11] (ov rgM A σ_12 hp) c k
      have hR : σ_12.2.2 0 0 = .ref (ρ.1 2) := by rw [e13.1]; exact hR
      refine R_icmp_lt 66 dX0_rests_44 (by decide) (fun c15 => ?_) (fun c15 => ?_)
      · replace h := h.1 c15
        refine R_iconst (v := 0) dX0_rests_66 (by decide) ?_
        exact R_iret dX0_rests_67 rfl rfl ⟨h.1.symm, hp, hB, by rw [h.2]⟩
      · replace h := h.2 c15
        refine R_aload_n dX0_rests_47 rfl ?_
        refine R_iload_n dX0_rests_48 rfl ?_
        refine R_iload dX0_rests_49 rfl ?_
        refine R_iload_n dX0_rests_51 rfl ?_
        obtain ⟨r18, σ_16, e17, h⟩ := h
        refine V_call (o := 0) [.int v2, .int v5, .int v3] hB hR dX0_rests_52 cv_X0_324 rfl rfl (Nat.le_of_ble_eq_true rfl) ⟨by decide, rfl⟩ rfl e17 (Nat.zero_le _) (Nat.zero_le _) (fun hp hB => ?_)
        show RnH [] G l mX0_rests (d + 303) (PV ρ E A r σ1) noX 55 [.ref (A 0), .int v1, .int v2, .int v3, .int v4, .int v5] [.int r18] (ov rgM A σ_16 hp) c k
        have hR : σ_16.2.2 0 0 = .ref (ρ.1 2) := by rw [e17.1]; exact hR
        refine R_aload_n dX0_rests_55 rfl ?_
        refine R_iload_n dX0_rests_56 rfl ?_
        refine R_iload dX0_rests_57 rfl ?_
        refine R_iload_n dX0_rests_59 rfl ?_
        obtain ⟨r21, σ_19, e20, h⟩ := h
        refine V_call (o := 0) [.int v2, .int v4, .int v3] hB hR dX0_rests_60 cv_X0_324 rfl rfl (Nat.le_of_ble_eq_true rfl) ⟨by decide, rfl⟩ rfl e20 (Nat.zero_le _) (Nat.zero_le _) (fun hp hB => ?_)
        show RnH [] G l mX0_rests (d + 303) (PV ρ E A r σ1) noX 63 [.ref (A 0), .int v1, .int v2, .int v3, .int v4, .int v5] [.int r21, .int r18] (ov rgM A σ_19 hp) c k
        have hR : σ_19.2.2 0 0 = .ref (ρ.1 2) := by rw [e20.1]; exact hR
        refine R_icmp_ge 68 dX0_rests_63 (by decide) (fun c22 => ?_) (fun c22 => ?_)
        · replace h := h.1 c22
          refine S_iinc (v := v5 + 1) (ls1 := [.ref (A 0), .int v1, .int v2, .int v3, .int v4, .int (v5 + 1)]) dX0_rests_68 rfl rfl (by decide) rfl rfl ?_
          refine R_goto 3 dX0_rests_71 (by decide) ?_
          exact h G l hp hB hR
        · replace h := h.2 c22
          refine R_iconst (v := 0) dX0_rests_66 (by decide) ?_
          exact R_iret dX0_rests_67 rfl rfl ⟨h.1.symm, hp, hB, by rw [h.2]⟩
    · replace h := h.2 c8
      refine R_goto 68 dX0_rests_24 (by decide) ?_
      refine S_iinc (v := v5 + 1) (ls1 := [.ref (A 0), .int v1, .int v2, .int v3, .int v4, .int (v5 + 1)]) dX0_rests_68 rfl rfl (by decide) rfl rfl ?_
      refine R_goto 3 dX0_rests_71 (by decide) ?_
      exact h G l hp hB hR
theorem gc_X0_rota_0 {d : Nat} {v1 : Int32} {c k : Nat} {ρ : Rho} {E : Hp → Prop} {A : Nat → Nat} {σ σ1 : Sg} {r : Option Value} (h : ∃ (r3 : Int32) (σ_1 : Sg), Tv ρ E A mX0_men (d + 302) 0 0 [.ref (A 0)] σ (some (.int r3)) σ_1 ∧ (((r3 = 0) → r = some (.int (-1)) ∧ σ1 = σ_1) ∧ ((¬ r3 = 0) → ((¬ (s0_isIn v1 0 1) = 0) → Rv ρ E A mX0_rota (d + 303) c k 25 [.ref (A 0), .int v1, .int 0, .int (-1), .int 0, U_, U_] [] σ_1 r σ1) ∧ (((s0_isIn v1 0 1) = 0) → r = some (.int (-1)) ∧ σ1 = σ_1)))) : Rv ρ E A mX0_rota (d + 303) c k 0 [.ref (A 0), .int v1, U_, U_, U_, U_, U_] [] σ r σ1 := by
  intro G l hp hB hR
  refine R_aload_n dX0_rota_0 rfl ?_
  obtain ⟨r3, σ_1, e2, h⟩ := h
  refine V_call (o := 0) [] hB hR dX0_rota_1 cv_X0_143 rfl rfl (Nat.le_of_ble_eq_true rfl) ⟨by decide, rfl⟩ rfl e2 (Nat.zero_le _) (Nat.zero_le _) (fun hp hB => ?_)
  show RnH [] G l mX0_rota (d + 303) (PV ρ E A r σ1) noX 4 [.ref (A 0), .int v1, U_, U_, U_, U_, U_] [.int r3] (ov rgM A σ_1 hp) c k
  have hR : σ_1.2.2 0 0 = .ref (ρ.1 2) := by rw [e2.1]; exact hR
  refine R_if_eq 16 dX0_rota_4 (by decide) (fun c4 => ?_) (fun c4 => ?_)
  · replace h := h.1 c4
    refine R_iconst (v := (-1)) dX0_rota_16 (by decide) ?_
    exact R_iret dX0_rota_17 rfl rfl ⟨h.1.symm, hp, hB, by rw [h.2]⟩
  · replace h := h.2 c4
    refine R_iload_n dX0_rota_7 rfl ?_
    refine R_iconst (v := 0) dX0_rota_8 (by decide) ?_
    refine R_iconst (v := 1) dX0_rota_9 (by decide) ?_
    refine V_callS [.int v1, .int 0, .int 1] dX0_rota_10 cs_X0_145 rfl rfl (Nat.le_of_ble_eq_true rfl) (s0t_isIn (d + 301) v1 0 1) ?_
    show RnH [] G l mX0_rota (d + 303) (PV ρ E A r σ1) noX 13 [.ref (A 0), .int v1, U_, U_, U_, U_, U_] [.int (s0_isIn v1 0 1)] (ov rgM A σ_1 hp) c k
    refine R_if_ne 18 dX0_rota_13 (by decide) (fun c5 => ?_) (fun c5 => ?_)
    · replace h := h.1 c5
      refine R_iconst (v := 0) dX0_rota_18 (by decide) ?_
      refine S_istore_n (ls1 := [.ref (A 0), .int v1, .int 0, U_, U_, U_, U_]) dX0_rota_19 (by decide) rfl rfl ?_
      refine R_iconst (v := (-1)) dX0_rota_20 (by decide) ?_
      refine S_istore_n (ls1 := [.ref (A 0), .int v1, .int 0, .int (-1), U_, U_, U_]) dX0_rota_21 (by decide) rfl rfl ?_
      refine R_iconst (v := 0) dX0_rota_22 (by decide) ?_
      refine S_istore (ls1 := [.ref (A 0), .int v1, .int 0, .int (-1), .int 0, U_, U_]) dX0_rota_23 (by decide) rfl rfl ?_
      exact h G l hp hB hR
    · replace h := h.2 c5
      refine R_iconst (v := (-1)) dX0_rota_16 (by decide) ?_
      exact R_iret dX0_rota_17 rfl rfl ⟨h.1.symm, hp, hB, by rw [h.2]⟩
theorem gc_X0_rota_25 {d : Nat} {v1 : Int32} {v2 : Int32} {v3 : Int32} {v4 : Int32} {c k : Nat} {ρ : Rho} {E : Hp → Prop} {A : Nat → Nat} {σ σ1 : Sg} {r : Option Value} (h : ∃ (r3 : Int32) (σ_1 : Sg), Tv ρ E A mX0_men (d + 302) 0 0 [.ref (A 0)] σ (some (.int r3)) σ_1 ∧ (((r3 ≤ v4) → r = some (.int (if v1 = 0 then v2 else v3)) ∧ σ1 = σ_1) ∧ ((¬ r3 ≤ v4) → Rv ρ E A mX0_rota (d + 303) c k 40 [.ref (A 0), .int v1, .int v2, .int v3, .int v4, .int 0, .int 0] [] σ_1 r σ1))) : Rv ρ E A mX0_rota (d + 303) c k 25 [.ref (A 0), .int v1, .int v2, .int v3, .int v4, U_, U_] [] σ r σ1 := by
  intro G l hp hB hR
  refine R_iload dX0_rota_25 rfl ?_
  refine R_aload_n dX0_rota_27 rfl ?_
  obtain ⟨r3, σ_1, e2, h⟩ := h
  refine V_call (o := 0) [] hB hR dX0_rota_28 cv_X0_143 rfl rfl (Nat.le_of_ble_eq_true rfl) ⟨by decide, rfl⟩ rfl e2 (Nat.zero_le _) (Nat.zero_le _) (fun hp hB => ?_)
  show RnH [] G l mX0_rota (d + 303) (PV ρ E A r σ1) noX 31 [.ref (A 0), .int v1, .int v2, .int v3, .int v4, U_, U_] [.int r3, .int v4] (ov rgM A σ_1 hp) c k
  have hR : σ_1.2.2 0 0 = .ref (ρ.1 2) := by rw [e2.1]; exact hR
  refine R_icmp_ge 120 dX0_rota_31 (by decide) (fun c4 => ?_) (fun c4 => ?_)
  · replace h := h.1 c4
    refine R_iload_n dX0_rota_120 rfl ?_
    have J5 : RnH [] G l mX0_rota (d + 303) (PV ρ E A r σ1) noX 129 [.ref (A 0), .int v1, .int v2, .int v3, .int v4, U_, U_] [.int (if v1 = 0 then v2 else v3)] (ov rgM A σ_1 hp) c k := by
      exact R_iret dX0_rota_129 rfl rfl ⟨h.1.symm, hp, hB, by rw [h.2]⟩
    refine R_if_ne 128 dX0_rota_121 (by decide) (fun c6 => ?_) (fun c6 => ?_)
    · refine R_iload_n dX0_rota_128 rfl ?_
      simp only [if_neg c6] at J5
      first | exact J5 | (simp only [if_neg c6]; exact J5)
    · refine R_iload_n dX0_rota_124 rfl ?_
      refine R_goto 129 dX0_rota_125 (by decide) ?_
      simp only [if_pos c6] at J5
      first | exact J5 | (simp only [if_pos c6]; exact J5)
  · replace h := h.2 c4
    refine R_iconst (v := 0) dX0_rota_34 (by decide) ?_
    refine S_istore (ls1 := [.ref (A 0), .int v1, .int v2, .int v3, .int v4, .int 0, U_]) dX0_rota_35 (by decide) rfl rfl ?_
    refine R_iconst (v := 0) dX0_rota_37 (by decide) ?_
    refine S_istore (ls1 := [.ref (A 0), .int v1, .int v2, .int v3, .int v4, .int 0, .int 0]) dX0_rota_38 (by decide) rfl rfl ?_
    exact h G l hp hB hR
theorem gc_X0_rota_40 {d : Nat} {v1 : Int32} {v2 : Int32} {v3 : Int32} {v4 : Int32} {v5 : Int32} {v6 : Int32} {c k : Nat} {ρ : Rho} {E : Hp → Prop} {A : Nat → Nat} {σ σ1 : Sg} {r : Option Value} (h : ∃ (r3 : Int32) (σ_1 : Sg), Tv ρ E A mX0_men (d + 302) 0 0 [.ref (A 0)] σ (some (.int r3)) σ_1 ∧ (((r3 ≤ v6) → ((v3 < v5) → Rv ρ E A mX0_rota (d + 303) c k 25 [.ref (A 0), .int v1, .int v4, .int v5, .int (v4 + 1), U_, U_] [] σ_1 r σ1) ∧ ((¬ v3 < v5) → Rv ρ E A mX0_rota (d + 303) c k 25 [.ref (A 0), .int v1, .int v2, .int v3, .int (v4 + 1), U_, U_] [] σ_1 r σ1)) ∧ ((¬ r3 ≤ v6) → ∃ (r8 : Int32) (σ_6 : Sg), Tv ρ E A mX0_men (d + 302) 0 0 [.ref (A 0)] σ_1 (some (.int r8)) σ_6 ∧ ((¬ r8 = 0) ∧ (vp_in ((v6 + v4) - (v6 + v4) / r8 * r8) 6 ∧ (∃ (r12 : Int32) (σ_10 : Sg), Tv ρ E A mX1_fits (d + 302) 0 0 [.ref (ρ.1 2), .ref (A 1), .int v6, .int (σ_6.1 3 ((v6 + v4) - (v6 + v4) / r8 * r8).toNatClampNeg)] σ_6 (some (.int r12)) σ_10 ∧ (Rv ρ E A mX0_rota (d + 303) c k 40 [.ref (A 0), .int v1, .int v2, .int v3, .int v4, .int (v5 + (if r12 = 0 then 0 else 1)), .int (v6 + 1)] [] σ_10 r σ1))))))) : Rv ρ E A mX0_rota (d + 303) c k 40 [.ref (A 0), .int v1, .int v2, .int v3, .int v4, .int v5, .int v6] [] σ r σ1 := by
  intro G l hp hB hR
  refine R_iload dX0_rota_40 rfl ?_
  refine R_aload_n dX0_rota_42 rfl ?_
  obtain ⟨r3, σ_1, e2, h⟩ := h
  refine V_call (o := 0) [] hB hR dX0_rota_43 cv_X0_143 rfl rfl (Nat.le_of_ble_eq_true rfl) ⟨by decide, rfl⟩ rfl e2 (Nat.zero_le _) (Nat.zero_le _) (fun hp hB => ?_)
  show RnH [] G l mX0_rota (d + 303) (PV ρ E A r σ1) noX 46 [.ref (A 0), .int v1, .int v2, .int v3, .int v4, .int v5, .int v6] [.int r3, .int v6] (ov rgM A σ_1 hp) c k
  have hR : σ_1.2.2 0 0 = .ref (ρ.1 2) := by rw [e2.1]; exact hR
  refine R_icmp_ge 99 dX0_rota_46 (by decide) (fun c4 => ?_) (fun c4 => ?_)
  · replace h := h.1 c4
    refine R_iload dX0_rota_99 rfl ?_
    refine R_iload_n dX0_rota_101 rfl ?_
    refine R_icmp_gt 108 dX0_rota_102 (by decide) (fun c5 => ?_) (fun c5 => ?_)
    · replace h := h.1 c5
      refine R_iload dX0_rota_108 rfl ?_
      refine S_istore_n (ls1 := [.ref (A 0), .int v1, .int v4, .int v3, .int v4, .int v5, .int v6]) dX0_rota_110 (by decide) rfl rfl ?_
      refine R_iload dX0_rota_111 rfl ?_
      refine S_istore_n (ls1 := [.ref (A 0), .int v1, .int v4, .int v5, .int v4, .int v5, .int v6]) dX0_rota_113 (by decide) rfl rfl ?_
      refine S_iinc (v := v4 + 1) (ls1 := [.ref (A 0), .int v1, .int v4, .int v5, .int (v4 + 1), .int v5, .int v6]) dX0_rota_114 rfl rfl (by decide) rfl rfl ?_
      refine R_goto 25 dX0_rota_117 (by decide) ?_
      refine R_drop 5 ?_
      refine R_drop 6 ?_
      exact h G l hp hB hR
    · replace h := h.2 c5
      refine R_goto 114 dX0_rota_105 (by decide) ?_
      refine S_iinc (v := v4 + 1) (ls1 := [.ref (A 0), .int v1, .int v2, .int v3, .int (v4 + 1), .int v5, .int v6]) dX0_rota_114 rfl rfl (by decide) rfl rfl ?_
      refine R_goto 25 dX0_rota_117 (by decide) ?_
      refine R_drop 5 ?_
      refine R_drop 6 ?_
      exact h G l hp hB hR
  · replace h := h.2 c4
    refine R_iload dX0_rota_49 rfl ?_
    refine R_aload_n dX0_rota_51 rfl ?_
    refine V_getr (o := 0) (v := .ref (ρ.1 2)) hB.1 dX0_rota_52 fm_X0_19_1 ⟨by decide, by decide, rfl, rfl⟩ hR ?_
    refine R_aload_n dX0_rota_55 rfl ?_
    refine V_geta (o := 0) (q := 1) hB.1 dX0_rota_56 fm_X0_28_1 ⟨by decide, by decide, rfl, rfl⟩ ?_
    refine R_iload dX0_rota_59 rfl ?_
    refine R_aload_n dX0_rota_61 rfl ?_
    refine V_geta (o := 0) (q := 1) hB.1 dX0_rota_62 fm_X0_28_1 ⟨by decide, by decide, rfl, rfl⟩ ?_
    refine V_geta (o := 1) (q := 3) hB.1 dX0_rota_65 fm_X0_198_3 ⟨by decide, by decide, rfl, rfl⟩ ?_
    refine R_iload dX0_rota_68 rfl ?_
    refine R_iload dX0_rota_70 rfl ?_
    refine R_iadd dX0_rota_72 ?_
    refine R_aload_n dX0_rota_73 rfl ?_
    obtain ⟨r8, σ_6, e7, h⟩ := h
    refine V_call (o := 0) [] hB hR dX0_rota_74 cv_X0_143 rfl rfl (Nat.le_of_ble_eq_true rfl) ⟨by decide, rfl⟩ rfl e7 (Nat.zero_le _) (Nat.zero_le _) (fun hp hB => ?_)
    show RnH [] G l mX0_rota (d + 303) (PV ρ E A r σ1) noX 77 [.ref (A 0), .int v1, .int v2, .int v3, .int v4, .int v5, .int v6] [.int r8, .int (v6 + v4), .ref (A 3), .int v6, .ref (A 1), .ref (ρ.1 2), .int v5] (ov rgM A σ_6 hp) c k
    have hR : σ_6.2.2 0 0 = .ref (ρ.1 2) := by rw [e7.1]; exact hR
    refine R_irem dX0_rota_77 h.1 ?_
    replace h := h.2
    have b9 := h.1
    replace h := h.2
    refine V_iald (o := 3) (x := σ_6.1 3 ((v6 + v4) - (v6 + v4) / r8 * r8).toNatClampNeg) hB.1 dX0_rota_78 ⟨by decide, rfl⟩ b9 rfl ?_
    obtain ⟨r12, σ_10, e11, h⟩ := h
    refine V_callR [.ref (A 1), .int v6, .int (σ_6.1 3 ((v6 + v4) - (v6 + v4) / r8 * r8).toNatClampNeg)] hB hR dX0_rota_79 cv_X0_176 rfl rfl (Nat.le_of_ble_eq_true rfl) rfl e11 (Nat.zero_le _) (Nat.zero_le _) (fun hp hB => ?_)
    show RnH [] G l mX0_rota (d + 303) (PV ρ E A r σ1) noX 82 [.ref (A 0), .int v1, .int v2, .int v3, .int v4, .int v5, .int v6] [.int r12, .int v5] (ov rgM A σ_10 hp) c k
    have hR : σ_10.2.2 0 0 = .ref (ρ.1 2) := by rw [e11.1]; exact hR
    have J13 : RnH [] G l mX0_rota (d + 303) (PV ρ E A r σ1) noX 90 [.ref (A 0), .int v1, .int v2, .int v3, .int v4, .int v5, .int v6] [.int (if r12 = 0 then 0 else 1), .int v5] (ov rgM A σ_10 hp) c k := by
      refine R_iadd dX0_rota_90 ?_
      refine S_istore (ls1 := [.ref (A 0), .int v1, .int v2, .int v3, .int v4, .int (v5 + (if r12 = 0 then 0 else 1)), .int v6]) dX0_rota_91 (by decide) rfl rfl ?_
      refine S_iinc (v := v6 + 1) (ls1 := [.ref (A 0), .int v1, .int v2, .int v3, .int v4, .int (v5 + (if r12 = 0 then 0 else 1)), .int (v6 + 1)]) dX0_rota_93 rfl rfl (by decide) rfl rfl ?_
      refine R_goto 40 dX0_rota_96 (by decide) ?_
      exact h G l hp hB hR
    refine R_if_eq 89 dX0_rota_82 (by decide) (fun c14 => ?_) (fun c14 => ?_)
    · refine R_iconst (v := 0) dX0_rota_89 (by decide) ?_
      simp only [if_pos c14] at J13
      first | exact J13 | (simp only [if_pos c14]; exact J13)
    · refine R_iconst (v := 1) dX0_rota_85 (by decide) ?_
      refine R_goto 90 dX0_rota_86 (by decide) ?_
      simp only [if_neg c14] at J13
      first | exact J13 | (simp only [if_neg c14]; exact J13)
theorem gc_X2_fittedn_0 {d : Nat} {c k : Nat} {ρ : Rho} {E : Hp → Prop} {A : Nat → Nat} {σ σ1 : Sg} {r : Option Value} (h : Rv ρ E A mX2_fitted (d + 303) c k 4 [.ref (A 1), .ref (ρ.1 2), .int 0, .int 0] [] σ r σ1) : Rv ρ E A mX2_fitted (d + 303) c k 0 [.ref (A 1), .ref (ρ.1 2), U_, U_] [] σ r σ1 := by
  intro G l hp hB hR
  refine R_iconst (v := 0) dX2_fitted_0 (by decide) ?_
  refine S_istore_n (ls1 := [.ref (A 1), .ref (ρ.1 2), .int 0, U_]) dX2_fitted_1 (by decide) rfl rfl ?_
  refine R_iconst (v := 0) dX2_fitted_2 (by decide) ?_
  refine S_istore_n (ls1 := [.ref (A 1), .ref (ρ.1 2), .int 0, .int 0]) dX2_fitted_3 (by decide) rfl rfl ?_
  exact h G l hp hB hR
theorem gc_X2_fittedn_4 {d : Nat} {v2 : Int32} {v3 : Int32} {c k : Nat} {ρ : Rho} {E : Hp → Prop} {A : Nat → Nat} {σ σ1 : Sg} {r : Option Value} (h : (((nI (ρ.1 0)) ≤ v3) → r = some (.int v2) ∧ σ1 = σ) ∧ ((¬ (nI (ρ.1 0)) ≤ v3) → vp_in v3 6 ∧ (∃ (r5 : Int32) (σ_3 : Sg), Tv ρ E A mX1_fits (d + 302) 0 0 [.ref (ρ.1 2), .ref (A 1), .int v3, .int (σ.1 3 v3.toNatClampNeg)] σ (some (.int r5)) σ_3 ∧ (((r5 = 0) → Rv ρ E A mX2_fitted (d + 303) c k 4 [.ref (A 1), .ref (ρ.1 2), .int v2, .int (v3 + 1)] [] σ_3 r σ1) ∧ ((¬ r5 = 0) → Rv ρ E A mX2_fitted (d + 303) c k 4 [.ref (A 1), .ref (ρ.1 2), .int (v2 ||| (1 <<< (v3 &&& 31))), .int (v3 + 1)] [] σ_3 r σ1))))) : Rv ρ E A mX2_fitted (d + 303) c k 4 [.ref (A 1), .ref (ρ.1 2), .int v2, .int v3] [] σ r σ1 := by
  intro G l hp hB hR
  refine R_iload_n dX2_fitted_4 rfl ?_
  refine R_aload_n dX2_fitted_5 rfl ?_
  refine V_rget (v := .ref (ρ.1 3)) hB dX2_fitted_6 fm_X2_46_2 rfl ?_
  refine V_size (w := 0) hB (by decide) dX2_fitted_9 cv_X2_52 (Nat.le_of_ble_eq_true rfl) ?_
  refine R_icmp_ge 42 dX2_fitted_12 (by decide) (fun c1 => ?_) (fun c1 => ?_)
  · replace h := h.1 c1
    refine R_iload_n dX2_fitted_42 rfl ?_
    exact R_iret dX2_fitted_43 rfl rfl ⟨h.1.symm, hp, hB, by rw [h.2]⟩
  · replace h := h.2 c1
    refine R_aload_n dX2_fitted_15 rfl ?_
    refine R_aload_n dX2_fitted_16 rfl ?_
    refine R_iload_n dX2_fitted_17 rfl ?_
    refine R_aload_n dX2_fitted_18 rfl ?_
    refine V_geta (o := 1) (q := 3) hB.1 dX2_fitted_19 fm_X2_15_3 ⟨by decide, by decide, rfl, rfl⟩ ?_
    refine R_iload_n dX2_fitted_22 rfl ?_
    have b2 := h.1
    replace h := h.2
    refine V_iald (o := 3) (x := σ.1 3 v3.toNatClampNeg) hB.1 dX2_fitted_23 ⟨by decide, rfl⟩ b2 rfl ?_
    obtain ⟨r5, σ_3, e4, h⟩ := h
    refine V_callR [.ref (A 1), .int v3, .int (σ.1 3 v3.toNatClampNeg)] hB hR dX2_fitted_24 cv_X2_81 rfl rfl (Nat.le_of_ble_eq_true rfl) rfl e4 (Nat.zero_le _) (Nat.zero_le _) (fun hp hB => ?_)
    show RnH [] G l mX2_fitted (d + 303) (PV ρ E A r σ1) noX 27 [.ref (A 1), .ref (ρ.1 2), .int v2, .int v3] [.int r5] (ov rgM A σ_3 hp) c k
    have hR : σ_3.2.2 0 0 = .ref (ρ.1 2) := by rw [e4.1]; exact hR
    refine R_if_eq 36 dX2_fitted_27 (by decide) (fun c6 => ?_) (fun c6 => ?_)
    · replace h := h.1 c6
      refine S_iinc (v := v3 + 1) (ls1 := [.ref (A 1), .ref (ρ.1 2), .int v2, .int (v3 + 1)]) dX2_fitted_36 rfl rfl (by decide) rfl rfl ?_
      refine R_goto 4 dX2_fitted_39 (by decide) ?_
      exact h G l hp hB hR
    · replace h := h.2 c6
      refine R_iload_n dX2_fitted_30 rfl ?_
      refine R_iconst (v := 1) dX2_fitted_31 (by decide) ?_
      refine R_iload_n dX2_fitted_32 rfl ?_
      refine R_ishl dX2_fitted_33 ?_
      refine R_ior dX2_fitted_34 ?_
      refine S_istore_n (ls1 := [.ref (A 1), .ref (ρ.1 2), .int (v2 ||| (1 <<< (v3 &&& 31))), .int v3]) dX2_fitted_35 (by decide) rfl rfl ?_
      refine S_iinc (v := v3 + 1) (ls1 := [.ref (A 1), .ref (ρ.1 2), .int (v2 ||| (1 <<< (v3 &&& 31))), .int (v3 + 1)]) dX2_fitted_36 rfl rfl (by decide) rfl rfl ?_
      refine R_goto 4 dX2_fitted_39 (by decide) ?_
      exact h G l hp hB hR
theorem gc_X2_fittedt_0 {d : Nat} {c k : Nat} {ρ : Rho} {E : Hp → Prop} {A : Nat → Nat} {σ σ1 : Sg} {r : Option Value} (h : Rv ρ E A mX2_fitted (d + 303) c k 4 [.ref (A 8), .ref (ρ.1 2), .int 0, .int 0] [] σ r σ1) : Rv ρ E A mX2_fitted (d + 303) c k 0 [.ref (A 8), .ref (ρ.1 2), U_, U_] [] σ r σ1 := by
  intro G l hp hB hR
  refine R_iconst (v := 0) dX2_fitted_0 (by decide) ?_
  refine S_istore_n (ls1 := [.ref (A 8), .ref (ρ.1 2), .int 0, U_]) dX2_fitted_1 (by decide) rfl rfl ?_
  refine R_iconst (v := 0) dX2_fitted_2 (by decide) ?_
  refine S_istore_n (ls1 := [.ref (A 8), .ref (ρ.1 2), .int 0, .int 0]) dX2_fitted_3 (by decide) rfl rfl ?_
  exact h G l hp hB hR
theorem gc_X2_fittedt_4 {d : Nat} {v2 : Int32} {v3 : Int32} {c k : Nat} {ρ : Rho} {E : Hp → Prop} {A : Nat → Nat} {σ σ1 : Sg} {r : Option Value} (h : (((nI (ρ.1 0)) ≤ v3) → r = some (.int v2) ∧ σ1 = σ) ∧ ((¬ (nI (ρ.1 0)) ≤ v3) → vp_in v3 6 ∧ (∃ (r5 : Int32) (σ_3 : Sg), Tv ρ E A mX1_fits (d + 302) 0 0 [.ref (ρ.1 2), .ref (A 8), .int v3, .int (σ.1 10 v3.toNatClampNeg)] σ (some (.int r5)) σ_3 ∧ (((r5 = 0) → Rv ρ E A mX2_fitted (d + 303) c k 4 [.ref (A 8), .ref (ρ.1 2), .int v2, .int (v3 + 1)] [] σ_3 r σ1) ∧ ((¬ r5 = 0) → Rv ρ E A mX2_fitted (d + 303) c k 4 [.ref (A 8), .ref (ρ.1 2), .int (v2 ||| (1 <<< (v3 &&& 31))), .int (v3 + 1)] [] σ_3 r σ1))))) : Rv ρ E A mX2_fitted (d + 303) c k 4 [.ref (A 8), .ref (ρ.1 2), .int v2, .int v3] [] σ r σ1 := by
  intro G l hp hB hR
  refine R_iload_n dX2_fitted_4 rfl ?_
  refine R_aload_n dX2_fitted_5 rfl ?_
  refine V_rget (v := .ref (ρ.1 3)) hB dX2_fitted_6 fm_X2_46_2 rfl ?_
  refine V_size (w := 0) hB (by decide) dX2_fitted_9 cv_X2_52 (Nat.le_of_ble_eq_true rfl) ?_
  refine R_icmp_ge 42 dX2_fitted_12 (by decide) (fun c1 => ?_) (fun c1 => ?_)
  · replace h := h.1 c1
    refine R_iload_n dX2_fitted_42 rfl ?_
    exact R_iret dX2_fitted_43 rfl rfl ⟨h.1.symm, hp, hB, by rw [h.2]⟩
  · replace h := h.2 c1
    refine R_aload_n dX2_fitted_15 rfl ?_
    refine R_aload_n dX2_fitted_16 rfl ?_
    refine R_iload_n dX2_fitted_17 rfl ?_
    refine R_aload_n dX2_fitted_18 rfl ?_
    refine V_geta (o := 8) (q := 10) hB.1 dX2_fitted_19 fm_X2_15_3 ⟨by decide, by decide, rfl, rfl⟩ ?_
    refine R_iload_n dX2_fitted_22 rfl ?_
    have b2 := h.1
    replace h := h.2
    refine V_iald (o := 10) (x := σ.1 10 v3.toNatClampNeg) hB.1 dX2_fitted_23 ⟨by decide, rfl⟩ b2 rfl ?_
    obtain ⟨r5, σ_3, e4, h⟩ := h
    refine V_callR [.ref (A 8), .int v3, .int (σ.1 10 v3.toNatClampNeg)] hB hR dX2_fitted_24 cv_X2_81 rfl rfl (Nat.le_of_ble_eq_true rfl) rfl e4 (Nat.zero_le _) (Nat.zero_le _) (fun hp hB => ?_)
    show RnH [] G l mX2_fitted (d + 303) (PV ρ E A r σ1) noX 27 [.ref (A 8), .ref (ρ.1 2), .int v2, .int v3] [.int r5] (ov rgM A σ_3 hp) c k
    have hR : σ_3.2.2 0 0 = .ref (ρ.1 2) := by rw [e4.1]; exact hR
    refine R_if_eq 36 dX2_fitted_27 (by decide) (fun c6 => ?_) (fun c6 => ?_)
    · replace h := h.1 c6
      refine S_iinc (v := v3 + 1) (ls1 := [.ref (A 8), .ref (ρ.1 2), .int v2, .int (v3 + 1)]) dX2_fitted_36 rfl rfl (by decide) rfl rfl ?_
      refine R_goto 4 dX2_fitted_39 (by decide) ?_
      exact h G l hp hB hR
    · replace h := h.2 c6
      refine R_iload_n dX2_fitted_30 rfl ?_
      refine R_iconst (v := 1) dX2_fitted_31 (by decide) ?_
      refine R_iload_n dX2_fitted_32 rfl ?_
      refine R_ishl dX2_fitted_33 ?_
      refine R_ior dX2_fitted_34 ?_
      refine S_istore_n (ls1 := [.ref (A 8), .ref (ρ.1 2), .int (v2 ||| (1 <<< (v3 &&& 31))), .int v3]) dX2_fitted_35 (by decide) rfl rfl ?_
      refine S_iinc (v := v3 + 1) (ls1 := [.ref (A 8), .ref (ρ.1 2), .int (v2 ||| (1 <<< (v3 &&& 31))), .int (v3 + 1)]) dX2_fitted_36 rfl rfl (by decide) rfl rfl ?_
      refine R_goto 4 dX2_fitted_39 (by decide) ?_
      exact h G l hp hB hR
theorem gc_X0_dress_0 {d : Nat} {v1 : Int32} {c k : Nat} {ρ : Rho} {E : Hp → Prop} {A : Nat → Nat} {σ σ1 : Sg} {r : Option Value} (h : ((¬ (s0_isIn v1 0 1) = 0) → ∃ (σ_2 : Sg), Tv ρ E A mX0_goDress (d + 303) 0 0 [.ref (A 0), .int 0, .int 0, .int 0, .int 0] (upA σ.1 0 (upd (σ.1 0) 14 (-1)), σ.2) none σ_2 ∧ (∃ (r6 : Int32) (σ_4 : Sg), Tv ρ E A mX0_men (d + 303) 0 0 [.ref (A 0)] σ_2 (some (.int r6)) σ_4 ∧ (r = some (.int (if v1 = 0 then σ_4.1 0 14 else σ_4.1 0 15)) ∧ σ1 = (upA σ_4.1 0 (upd (σ_4.1 0) 13 r6), σ_4.2)))) ∧ (((s0_isIn v1 0 1) = 0) → r = some (.int (-1)) ∧ σ1 = σ)) : Rv ρ E A mX0_dress (d + 304) c k 0 [.ref (A 0), .int v1] [] σ r σ1 := by
  intro G l hp hB hR
  refine R_iload_n dX0_dress_0 rfl ?_
  refine R_iconst (v := 0) dX0_dress_1 (by decide) ?_
  refine R_iconst (v := 1) dX0_dress_2 (by decide) ?_
  refine V_callS [.int v1, .int 0, .int 1] dX0_dress_3 cs_X0_145 rfl rfl (Nat.le_of_ble_eq_true rfl) (s0t_isIn (d + 302) v1 0 1) ?_
  show RnH [] G l mX0_dress (d + 304) (PV ρ E A r σ1) noX 6 [.ref (A 0), .int v1] [.int (s0_isIn v1 0 1)] (ov rgM A σ hp) c k
  refine R_if_ne 11 dX0_dress_6 (by decide) (fun c1 => ?_) (fun c1 => ?_)
  · replace h := h.1 c1
    refine R_aload_n dX0_dress_11 rfl ?_
    refine R_iconst (v := (-1)) dX0_dress_12 (by decide) ?_
    refine V_put (o := 0) (σ9 := (upA σ.1 0 (upd (σ.1 0) 14 (-1)), σ.2)) hB.1 dX0_dress_13 fm_X0_263_1 ft_1_14 rfl rfl ⟨by decide, by decide, rfl, rfl⟩ rfl ?_
    refine R_aload_n dX0_dress_16 rfl ?_
    refine R_iconst (v := 0) dX0_dress_17 (by decide) ?_
    refine R_iconst (v := 0) dX0_dress_18 (by decide) ?_
    refine R_iconst (v := 0) dX0_dress_19 (by decide) ?_
    refine R_iconst (v := 0) dX0_dress_20 (by decide) ?_
    obtain ⟨σ_2, e3, h⟩ := h
    refine V_call (o := 0) [.int 0, .int 0, .int 0, .int 0] hB hR dX0_dress_21 cv_X0_275 rfl rfl (Nat.le_of_ble_eq_true rfl) ⟨by decide, rfl⟩ rfl e3 (Nat.zero_le _) (Nat.zero_le _) (fun hp hB => ?_)
    show RnH [] G l mX0_dress (d + 304) (PV ρ E A r σ1) noX 24 [.ref (A 0), .int v1] [] (ov rgM A σ_2 hp) c k
    have hR : σ_2.2.2 0 0 = .ref (ρ.1 2) := by rw [e3.1]; exact hR
    refine R_aload_n dX0_dress_24 rfl ?_
    refine R_aload_n dX0_dress_25 rfl ?_
    obtain ⟨r6, σ_4, e5, h⟩ := h
    refine V_call (o := 0) [] hB hR dX0_dress_26 cv_X0_143 rfl rfl (Nat.le_of_ble_eq_true rfl) ⟨by decide, rfl⟩ rfl e5 (Nat.zero_le _) (Nat.zero_le _) (fun hp hB => ?_)
    show RnH [] G l mX0_dress (d + 304) (PV ρ E A r σ1) noX 29 [.ref (A 0), .int v1] [.int r6, .ref (A 0)] (ov rgM A σ_4 hp) c k
    have hR : σ_4.2.2 0 0 = .ref (ρ.1 2) := by rw [e5.1]; exact hR
    refine V_put (o := 0) (σ9 := (upA σ_4.1 0 (upd (σ_4.1 0) 13 r6), σ_4.2)) hB.1 dX0_dress_29 fm_X0_112_1 ft_1_13 rfl rfl ⟨by decide, by decide, rfl, rfl⟩ rfl ?_
    refine R_iload_n dX0_dress_32 rfl ?_
    have J7 : RnH [] G l mX0_dress (d + 304) (PV ρ E A r σ1) noX 47 [.ref (A 0), .int v1] [.int (if v1 = 0 then σ_4.1 0 14 else σ_4.1 0 15)] (ov rgM A (upA σ_4.1 0 (upd (σ_4.1 0) 13 r6), σ_4.2) hp) c k := by
      exact R_iret dX0_dress_47 rfl rfl ⟨h.1.symm, hp, hB, by rw [h.2]⟩
    refine R_if_ne 43 dX0_dress_33 (by decide) (fun c8 => ?_) (fun c8 => ?_)
    · refine R_aload_n dX0_dress_43 rfl ?_
      refine V_get (o := 0) (x := σ_4.1 0 15) hB.1 dX0_dress_44 fm_X0_266_1 ⟨by decide, by decide, rfl, rfl⟩ rfl ?_
      simp only [if_neg c8] at J7
      first | exact J7 | (simp only [if_neg c8]; exact J7)
    · refine R_aload_n dX0_dress_36 rfl ?_
      refine V_get (o := 0) (x := σ_4.1 0 14) hB.1 dX0_dress_37 fm_X0_263_1 ⟨by decide, by decide, rfl, rfl⟩ rfl ?_
      refine R_goto 47 dX0_dress_40 (by decide) ?_
      simp only [if_pos c8] at J7
      first | exact J7 | (simp only [if_pos c8]; exact J7)
  · replace h := h.2 c1
    refine R_iconst (v := (-1)) dX0_dress_9 (by decide) ?_
    exact R_iret dX0_dress_10 rfl rfl ⟨h.1.symm, hp, hB, by rw [h.2]⟩
theorem gc_X0_fitted_0 {d : Nat} {c k : Nat} {ρ : Rho} {E : Hp → Prop} {A : Nat → Nat} {σ σ1 : Sg} {r : Option Value} (h : ∃ (r3 : Int32) (σ_1 : Sg), Tv ρ E A mX2_fitted (d + 303) 0 0 [.ref (A 1), .ref (ρ.1 2)] σ (some (.int r3)) σ_1 ∧ (r = some (.int r3) ∧ σ1 = σ_1)) : Rv ρ E A mX0_fitted (d + 304) c k 0 [.ref (A 0)] [] σ r σ1 := by
  intro G l hp hB hR
  refine R_aload_n dX0_fitted_0 rfl ?_
  refine V_geta (o := 0) (q := 1) hB.1 dX0_fitted_1 fm_X0_28_1 ⟨by decide, by decide, rfl, rfl⟩ ?_
  refine R_aload_n dX0_fitted_4 rfl ?_
  refine V_getr (o := 0) (v := .ref (ρ.1 2)) hB.1 dX0_fitted_5 fm_X0_19_1 ⟨by decide, by decide, rfl, rfl⟩ hR ?_
  obtain ⟨r3, σ_1, e2, h⟩ := h
  refine V_call (o := 1) [.ref (ρ.1 2)] hB hR dX0_fitted_8 cv_X0_260 rfl rfl (Nat.le_of_ble_eq_true rfl) ⟨by decide, rfl⟩ rfl e2 (Nat.zero_le _) (Nat.zero_le _) (fun hp hB => ?_)
  show RnH [] G l mX0_fitted (d + 304) (PV ρ E A r σ1) noX 11 [.ref (A 0)] [.int r3] (ov rgM A σ_1 hp) c k
  have hR : σ_1.2.2 0 0 = .ref (ρ.1 2) := by rw [e2.1]; exact hR
  exact R_iret dX0_fitted_11 rfl rfl ⟨h.1.symm, hp, hB, by rw [h.2]⟩
theorem gc_X0_growths_0 {d : Nat} {v1 : Int32} {c k : Nat} {ρ : Rho} {E : Hp → Prop} {A : Nat → Nat} {σ σ1 : Sg} {r : Option Value} (h : ∃ (r3 : Int32) (σ_1 : Sg), Tv ρ E A mX0_men (d + 303) 0 0 [.ref (A 0)] σ (some (.int r3)) σ_1 ∧ (((r3 = 0) → r = some (.int 0) ∧ σ1 = σ_1) ∧ ((¬ r3 = 0) → ∃ (r7 : Int32) (σ_5 : Sg), Tv ρ E A mX0_coats (d + 303) 0 0 [.ref (A 0)] σ_1 (some (.int r7)) σ_5 ∧ (((¬ r7 = 0) → ∃ (σ_9 : Sg), Tv ρ E A mX0_layFits (d + 303) 0 0 [.ref (A 0)] σ_5 none σ_9 ∧ (Rv ρ E A mX0_growths (d + 304) c k 24 [.ref (A 0), .int v1, .int 0, .int 0] [] σ_9 r σ1)) ∧ ((r7 = 0) → r = some (.int 0) ∧ σ1 = σ_5))))) : Rv ρ E A mX0_growths (d + 304) c k 0 [.ref (A 0), .int v1, U_, U_] [] σ r σ1 := by
  intro G l hp hB hR
  refine R_aload_n dX0_growths_0 rfl ?_
  obtain ⟨r3, σ_1, e2, h⟩ := h
  refine V_call (o := 0) [] hB hR dX0_growths_1 cv_X0_143 rfl rfl (Nat.le_of_ble_eq_true rfl) ⟨by decide, rfl⟩ rfl e2 (Nat.zero_le _) (Nat.zero_le _) (fun hp hB => ?_)
  show RnH [] G l mX0_growths (d + 304) (PV ρ E A r σ1) noX 4 [.ref (A 0), .int v1, U_, U_] [.int r3] (ov rgM A σ_1 hp) c k
  have hR : σ_1.2.2 0 0 = .ref (ρ.1 2) := by rw [e2.1]; exact hR
  refine R_if_eq 14 dX0_growths_4 (by decide) (fun c4 => ?_) (fun c4 => ?_)
  · replace h := h.1 c4
    refine R_iconst (v := 0) dX0_growths_14 (by decide) ?_
    exact R_iret dX0_growths_15 rfl rfl ⟨h.1.symm, hp, hB, by rw [h.2]⟩
  · replace h := h.2 c4
    refine R_aload_n dX0_growths_7 rfl ?_
    obtain ⟨r7, σ_5, e6, h⟩ := h
    refine V_call (o := 0) [] hB hR dX0_growths_8 cv_X0_149 rfl rfl (Nat.le_of_ble_eq_true rfl) ⟨by decide, rfl⟩ rfl e6 (Nat.zero_le _) (Nat.zero_le _) (fun hp hB => ?_)
    show RnH [] G l mX0_growths (d + 304) (PV ρ E A r σ1) noX 11 [.ref (A 0), .int v1, U_, U_] [.int r7] (ov rgM A σ_5 hp) c k
    have hR : σ_5.2.2 0 0 = .ref (ρ.1 2) := by rw [e6.1]; exact hR
    refine R_if_ne 16 dX0_growths_11 (by decide) (fun c8 => ?_) (fun c8 => ?_)
    · replace h := h.1 c8
      refine R_aload_n dX0_growths_16 rfl ?_
      obtain ⟨σ_9, e10, h⟩ := h
      refine V_call (o := 0) [] hB hR dX0_growths_17 cv_X0_375 rfl rfl (Nat.le_of_ble_eq_true rfl) ⟨by decide, rfl⟩ rfl e10 (Nat.zero_le _) (Nat.zero_le _) (fun hp hB => ?_)
      show RnH [] G l mX0_growths (d + 304) (PV ρ E A r σ1) noX 20 [.ref (A 0), .int v1, U_, U_] [] (ov rgM A σ_9 hp) c k
      have hR : σ_9.2.2 0 0 = .ref (ρ.1 2) := by rw [e10.1]; exact hR
      refine R_iconst (v := 0) dX0_growths_20 (by decide) ?_
      refine S_istore_n (ls1 := [.ref (A 0), .int v1, .int 0, U_]) dX0_growths_21 (by decide) rfl rfl ?_
      refine R_iconst (v := 0) dX0_growths_22 (by decide) ?_
      refine S_istore_n (ls1 := [.ref (A 0), .int v1, .int 0, .int 0]) dX0_growths_23 (by decide) rfl rfl ?_
      exact h G l hp hB hR
    · replace h := h.2 c8
      refine R_iconst (v := 0) dX0_growths_14 (by decide) ?_
      exact R_iret dX0_growths_15 rfl rfl ⟨h.1.symm, hp, hB, by rw [h.2]⟩
theorem gc_X0_growths_24 {d : Nat} {v1 : Int32} {v2 : Int32} {v3 : Int32} {c k : Nat} {ρ : Rho} {E : Hp → Prop} {A : Nat → Nat} {σ σ1 : Sg} {r : Option Value} (h : ((30 < v3) → r = some (.int v2) ∧ σ1 = σ) ∧ ((¬ 30 < v3) → ∃ (n4 n5 : Nat) (r7 : Int32) (σ_2 : Sg), Tv ρ E A mX0_isSo (d + 303) n4 n5 [.ref (A 0), .int v3, .int v1] σ (some (.int r7)) σ_2 ∧ (n4 ≤ c ∧ n5 ≤ k) ∧ (Rv ρ E A mX0_growths (d + 304) (c - n4) (k - n5) 24 [.ref (A 0), .int v1, .int (v2 + (if r7 = 0 then 0 else 1)), .int (v3 + 1)] [] σ_2 r σ1))) : Rv ρ E A mX0_growths (d + 304) c k 24 [.ref (A 0), .int v1, .int v2, .int v3] [] σ r σ1 := by
  intro G l hp hB hR
  refine R_iload_n dX0_growths_24 rfl ?_
  refine R_bipush (v := 30) dX0_growths_25 (by decide) ?_
  refine R_icmp_gt 53 dX0_growths_27 (by decide) (fun c1 => ?_) (fun c1 => ?_)
  · replace h := h.1 c1
    refine R_iload_n dX0_growths_53 rfl ?_
    exact R_iret dX0_growths_54 rfl rfl ⟨h.1.symm, hp, hB, by rw [h.2]⟩
  · replace h := h.2 c1
    refine R_iload_n dX0_growths_30 rfl ?_
    refine R_aload_n dX0_growths_31 rfl ?_
    refine R_iload_n dX0_growths_32 rfl ?_
    refine R_iload_n dX0_growths_33 rfl ?_
    obtain ⟨n4, n5, r7, σ_2, e3, h⟩ := h
    have b6 := h.1
    replace h := h.2
    refine V_call (o := 0) [.int v3, .int v1] hB hR dX0_growths_34 cv_X0_378 rfl rfl (Nat.le_of_ble_eq_true rfl) ⟨by decide, rfl⟩ rfl e3 b6.1 b6.2 (fun hp hB => ?_)
    show RnH [] G l mX0_growths (d + 304) (PV ρ E A r σ1) noX 37 [.ref (A 0), .int v1, .int v2, .int v3] [.int r7, .int v2] (ov rgM A σ_2 hp) (c - n4) (k - n5)
    have hR : σ_2.2.2 0 0 = .ref (ρ.1 2) := by rw [e3.1]; exact hR
    have J8 : RnH [] G l mX0_growths (d + 304) (PV ρ E A r σ1) noX 45 [.ref (A 0), .int v1, .int v2, .int v3] [.int (if r7 = 0 then 0 else 1), .int v2] (ov rgM A σ_2 hp) (c - n4) (k - n5) := by
      refine R_iadd dX0_growths_45 ?_
      refine S_istore_n (ls1 := [.ref (A 0), .int v1, .int (v2 + (if r7 = 0 then 0 else 1)), .int v3]) dX0_growths_46 (by decide) rfl rfl ?_
      refine S_iinc (v := v3 + 1) (ls1 := [.ref (A 0), .int v1, .int (v2 + (if r7 = 0 then 0 else 1)), .int (v3 + 1)]) dX0_growths_47 rfl rfl (by decide) rfl rfl ?_
      refine R_goto 24 dX0_growths_50 (by decide) ?_
      exact h G l hp hB hR
    refine R_if_eq 44 dX0_growths_37 (by decide) (fun c9 => ?_) (fun c9 => ?_)
    · refine R_iconst (v := 0) dX0_growths_44 (by decide) ?_
      simp only [if_pos c9] at J8
      first | exact J8 | (simp only [if_pos c9]; exact J8)
    · refine R_iconst (v := 1) dX0_growths_40 (by decide) ?_
      refine R_goto 45 dX0_growths_41 (by decide) ?_
      simp only [if_neg c9] at J8
      first | exact J8 | (simp only [if_neg c9]; exact J8)
theorem gc_X0_man_0 {d : Nat} {v1 : Int32} {v2 : Int32} {c k : Nat} {ρ : Rho} {E : Hp → Prop} {A : Nat → Nat} {σ σ1 : Sg} {r : Option Value} (h : ∃ (r3 : Int32) (σ_1 : Sg), Tv ρ E A mX0_isMan (d + 303) 0 0 [.ref (A 0), .int v1] σ (some (.int r3)) σ_1 ∧ (((¬ r3 = 0) → ((v2.toInt < 0 ∨ 4 < v2.toInt) → r = some (.int (-2)) ∧ σ1 = σ_1) ∧ (v2 = 0 → vp_in v1 (ρ.1 0) ∧ (r = some (.int (mnI ρ v1.toNatClampNeg 1)) ∧ σ1 = σ_1)) ∧ (v2 = 1 → vp_in v1 6 ∧ (r = some (.int (σ_1.1 2 v1.toNatClampNeg)) ∧ σ1 = σ_1)) ∧ (v2 = 2 → vp_in v1 (ρ.1 0) ∧ (r = some (.int (mnI ρ v1.toNatClampNeg 3)) ∧ σ1 = σ_1)) ∧ (v2 = 3 → vp_in v1 6 ∧ (r = some (.int (σ_1.1 3 v1.toNatClampNeg)) ∧ σ1 = σ_1)) ∧ (v2 = 4 → ∃ (r11 : Int32) (σ_9 : Sg), Tv ρ E A mX0_fitting (d + 303) 0 0 [.ref (A 0), .int v1] σ_1 (some (.int r11)) σ_9 ∧ (r = some (.int r11) ∧ σ1 = σ_9))) ∧ ((r3 = 0) → r = some (.int (-2)) ∧ σ1 = σ_1))) : Rv ρ E A mX0_man (d + 304) c k 0 [.ref (A 0), .int v1, .int v2] [] σ r σ1 := by
  intro G l hp hB hR
  refine R_aload_n dX0_man_0 rfl ?_
  refine R_iload_n dX0_man_1 rfl ?_
  obtain ⟨r3, σ_1, e2, h⟩ := h
  refine V_call (o := 0) [.int v1] hB hR dX0_man_2 cv_X0_180 rfl rfl (Nat.le_of_ble_eq_true rfl) ⟨by decide, rfl⟩ rfl e2 (Nat.zero_le _) (Nat.zero_le _) (fun hp hB => ?_)
  show RnH [] G l mX0_man (d + 304) (PV ρ E A r σ1) noX 5 [.ref (A 0), .int v1, .int v2] [.int r3] (ov rgM A σ_1 hp) c k
  have hR : σ_1.2.2 0 0 = .ref (ρ.1 2) := by rw [e2.1]; exact hR
  refine R_if_ne 11 dX0_man_5 (by decide) (fun c4 => ?_) (fun c4 => ?_)
  · replace h := h.1 c4
    refine R_iload_n dX0_man_11 rfl ?_
    by_cases hlo : v2.toInt < 0 ∨ 4 < v2.toInt
    · replace h := h.1 hlo
      refine R_tabOut 110 dX0_man_12 hlo (by decide) ?_
      refine R_bipush (v := (-2)) dX0_man_110 (by decide) ?_
      exact R_iret dX0_man_112 rfl rfl ⟨h.1.symm, hp, hB, by rw [h.2]⟩
    · replace h := h.2
      rcases (show v2.toInt = 0 ∨ v2.toInt = 1 ∨ v2.toInt = 2 ∨ v2.toInt = 3 ∨ v2.toInt = 4 by omega) with e9 | e9 | e9 | e9 | e9
      · replace e9 : v2 = 0 := Int32.toInt_inj.mp (e9.trans (by decide))
        replace h := h.1 e9
        subst e9
        refine R_tabIn 48 dX0_man_12 (by decide) (by decide) rfl (by decide) ?_
        refine R_aload_n dX0_man_48 rfl ?_
        refine V_getr (o := 0) (v := .ref (ρ.1 2)) hB.1 dX0_man_49 fm_X0_19_1 ⟨by decide, by decide, rfl, rfl⟩ hR ?_
        refine V_rget (v := .ref (ρ.1 3)) hB dX0_man_52 fm_X0_137_2 rfl ?_
        refine R_iload_n dX0_man_55 rfl ?_
        have b5 := h.1
        replace h := h.2
        refine V_lget (w := 0) (i := v1) hB (by decide) b5 dX0_man_56 cv_X0_184 (Nat.le_of_ble_eq_true rfl) ?_
        refine V_mcast (i := v1) hB b5 dX0_man_59 q1003 ?_
        refine V_mget (i := v1) (x := mnI ρ v1.toNatClampNeg 1) hB b5 dX0_man_62 fm_X0_189_9 (by decide) rfl ?_
        exact R_iret dX0_man_65 rfl rfl ⟨h.1.symm, hp, hB, by rw [h.2]⟩
      · replace e9 : v2 = 1 := Int32.toInt_inj.mp (e9.trans (by decide))
        replace h := h.2.1 e9
        subst e9
        refine R_tabIn 66 dX0_man_12 (by decide) (by decide) rfl (by decide) ?_
        refine R_aload_n dX0_man_66 rfl ?_
        refine V_geta (o := 0) (q := 1) hB.1 dX0_man_67 fm_X0_28_1 ⟨by decide, by decide, rfl, rfl⟩ ?_
        refine V_geta (o := 1) (q := 2) hB.1 dX0_man_70 fm_X0_192_3 ⟨by decide, by decide, rfl, rfl⟩ ?_
        refine R_iload_n dX0_man_73 rfl ?_
        have b6 := h.1
        replace h := h.2
        refine V_iald (o := 2) (x := σ_1.1 2 v1.toNatClampNeg) hB.1 dX0_man_74 ⟨by decide, rfl⟩ b6 rfl ?_
        exact R_iret dX0_man_75 rfl rfl ⟨h.1.symm, hp, hB, by rw [h.2]⟩
      · replace e9 : v2 = 2 := Int32.toInt_inj.mp (e9.trans (by decide))
        replace h := h.2.2.1 e9
        subst e9
        refine R_tabIn 76 dX0_man_12 (by decide) (by decide) rfl (by decide) ?_
        refine R_aload_n dX0_man_76 rfl ?_
        refine V_getr (o := 0) (v := .ref (ρ.1 2)) hB.1 dX0_man_77 fm_X0_19_1 ⟨by decide, by decide, rfl, rfl⟩ hR ?_
        refine V_rget (v := .ref (ρ.1 3)) hB dX0_man_80 fm_X0_137_2 rfl ?_
        refine R_iload_n dX0_man_83 rfl ?_
        have b7 := h.1
        replace h := h.2
        refine V_lget (w := 0) (i := v1) hB (by decide) b7 dX0_man_84 cv_X0_184 (Nat.le_of_ble_eq_true rfl) ?_
        refine V_mcast (i := v1) hB b7 dX0_man_87 q1003 ?_
        refine V_mget (i := v1) (x := mnI ρ v1.toNatClampNeg 3) hB b7 dX0_man_90 fm_X0_195_9 (by decide) rfl ?_
        exact R_iret dX0_man_93 rfl rfl ⟨h.1.symm, hp, hB, by rw [h.2]⟩
      · replace e9 : v2 = 3 := Int32.toInt_inj.mp (e9.trans (by decide))
        replace h := h.2.2.2.1 e9
        subst e9
        refine R_tabIn 94 dX0_man_12 (by decide) (by decide) rfl (by decide) ?_
        refine R_aload_n dX0_man_94 rfl ?_
        refine V_geta (o := 0) (q := 1) hB.1 dX0_man_95 fm_X0_28_1 ⟨by decide, by decide, rfl, rfl⟩ ?_
        refine V_geta (o := 1) (q := 3) hB.1 dX0_man_98 fm_X0_198_3 ⟨by decide, by decide, rfl, rfl⟩ ?_
        refine R_iload_n dX0_man_101 rfl ?_
        have b8 := h.1
        replace h := h.2
        refine V_iald (o := 3) (x := σ_1.1 3 v1.toNatClampNeg) hB.1 dX0_man_102 ⟨by decide, rfl⟩ b8 rfl ?_
        exact R_iret dX0_man_103 rfl rfl ⟨h.1.symm, hp, hB, by rw [h.2]⟩
      · replace e9 : v2 = 4 := Int32.toInt_inj.mp (e9.trans (by decide))
        replace h := h.2.2.2.2 e9
        subst e9
        refine R_tabIn 104 dX0_man_12 (by decide) (by decide) rfl (by decide) ?_
        refine R_aload_n dX0_man_104 rfl ?_
        refine R_iload_n dX0_man_105 rfl ?_
        obtain ⟨r11, σ_9, e10, h⟩ := h
        refine V_call (o := 0) [.int v1] hB hR dX0_man_106 cv_X0_201 rfl rfl (Nat.le_of_ble_eq_true rfl) ⟨by decide, rfl⟩ rfl e10 (Nat.zero_le _) (Nat.zero_le _) (fun hp hB => ?_)
        show RnH [] G l mX0_man (d + 304) (PV ρ E A r σ1) noX 109 [.ref (A 0), .int v1, .int 4] [.int r11] (ov rgM A σ_9 hp) c k
        have hR : σ_9.2.2 0 0 = .ref (ρ.1 2) := by rw [e10.1]; exact hR
        exact R_iret dX0_man_109 rfl rfl ⟨h.1.symm, hp, hB, by rw [h.2]⟩
  · replace h := h.2 c4
    refine R_bipush (v := (-2)) dX0_man_8 (by decide) ?_
    exact R_iret dX0_man_10 rfl rfl ⟨h.1.symm, hp, hB, by rw [h.2]⟩
theorem gc_X0_naked_0 {d : Nat} {c k : Nat} {ρ : Rho} {E : Hp → Prop} {A : Nat → Nat} {σ σ1 : Sg} {r : Option Value} (h : Rv ρ E A mX0_naked (d + 304) c k 4 [.ref (A 0), .int 0, .int 0] [] σ r σ1) : Rv ρ E A mX0_naked (d + 304) c k 0 [.ref (A 0), U_, U_] [] σ r σ1 := by
  intro G l hp hB hR
  refine R_iconst (v := 0) dX0_naked_0 (by decide) ?_
  refine S_istore_n (ls1 := [.ref (A 0), .int 0, U_]) dX0_naked_1 (by decide) rfl rfl ?_
  refine R_iconst (v := 0) dX0_naked_2 (by decide) ?_
  refine S_istore_n (ls1 := [.ref (A 0), .int 0, .int 0]) dX0_naked_3 (by decide) rfl rfl ?_
  exact h G l hp hB hR
theorem gc_X0_naked_4 {d : Nat} {v1 : Int32} {v2 : Int32} {c k : Nat} {ρ : Rho} {E : Hp → Prop} {A : Nat → Nat} {σ σ1 : Sg} {r : Option Value} (h : ∃ (r3 : Int32) (σ_1 : Sg), Tv ρ E A mX0_men (d + 303) 0 0 [.ref (A 0)] σ (some (.int r3)) σ_1 ∧ (((r3 ≤ v2) → r = some (.int v1) ∧ σ1 = σ_1) ∧ ((¬ r3 ≤ v2) → ∃ (r7 : Int32) (σ_5 : Sg), Tv ρ E A mX0_fitting (d + 303) 0 0 [.ref (A 0), .int v2] σ_1 (some (.int r7)) σ_5 ∧ (((¬ r7 = 0) → Rv ρ E A mX0_naked (d + 304) c k 4 [.ref (A 0), .int v1, .int (v2 + 1)] [] σ_5 r σ1) ∧ ((r7 = 0) → Rv ρ E A mX0_naked (d + 304) c k 4 [.ref (A 0), .int (v1 ||| (1 <<< (v2 &&& 31))), .int (v2 + 1)] [] σ_5 r σ1))))) : Rv ρ E A mX0_naked (d + 304) c k 4 [.ref (A 0), .int v1, .int v2] [] σ r σ1 := by
  intro G l hp hB hR
  refine R_iload_n dX0_naked_4 rfl ?_
  refine R_aload_n dX0_naked_5 rfl ?_
  obtain ⟨r3, σ_1, e2, h⟩ := h
  refine V_call (o := 0) [] hB hR dX0_naked_6 cv_X0_143 rfl rfl (Nat.le_of_ble_eq_true rfl) ⟨by decide, rfl⟩ rfl e2 (Nat.zero_le _) (Nat.zero_le _) (fun hp hB => ?_)
  show RnH [] G l mX0_naked (d + 304) (PV ρ E A r σ1) noX 9 [.ref (A 0), .int v1, .int v2] [.int r3, .int v2] (ov rgM A σ_1 hp) c k
  have hR : σ_1.2.2 0 0 = .ref (ρ.1 2) := by rw [e2.1]; exact hR
  refine R_icmp_ge 32 dX0_naked_9 (by decide) (fun c4 => ?_) (fun c4 => ?_)
  · replace h := h.1 c4
    refine R_iload_n dX0_naked_32 rfl ?_
    exact R_iret dX0_naked_33 rfl rfl ⟨h.1.symm, hp, hB, by rw [h.2]⟩
  · replace h := h.2 c4
    refine R_aload_n dX0_naked_12 rfl ?_
    refine R_iload_n dX0_naked_13 rfl ?_
    obtain ⟨r7, σ_5, e6, h⟩ := h
    refine V_call (o := 0) [.int v2] hB hR dX0_naked_14 cv_X0_201 rfl rfl (Nat.le_of_ble_eq_true rfl) ⟨by decide, rfl⟩ rfl e6 (Nat.zero_le _) (Nat.zero_le _) (fun hp hB => ?_)
    show RnH [] G l mX0_naked (d + 304) (PV ρ E A r σ1) noX 17 [.ref (A 0), .int v1, .int v2] [.int r7] (ov rgM A σ_5 hp) c k
    have hR : σ_5.2.2 0 0 = .ref (ρ.1 2) := by rw [e6.1]; exact hR
    refine R_if_ne 26 dX0_naked_17 (by decide) (fun c8 => ?_) (fun c8 => ?_)
    · replace h := h.1 c8
      refine S_iinc (v := v2 + 1) (ls1 := [.ref (A 0), .int v1, .int (v2 + 1)]) dX0_naked_26 rfl rfl (by decide) rfl rfl ?_
      refine R_goto 4 dX0_naked_29 (by decide) ?_
      exact h G l hp hB hR
    · replace h := h.2 c8
      refine R_iload_n dX0_naked_20 rfl ?_
      refine R_iconst (v := 1) dX0_naked_21 (by decide) ?_
      refine R_iload_n dX0_naked_22 rfl ?_
      refine R_ishl dX0_naked_23 ?_
      refine R_ior dX0_naked_24 ?_
      refine S_istore_n (ls1 := [.ref (A 0), .int (v1 ||| (1 <<< (v2 &&& 31))), .int v2]) dX0_naked_25 (by decide) rfl rfl ?_
      refine S_iinc (v := v2 + 1) (ls1 := [.ref (A 0), .int (v1 ||| (1 <<< (v2 &&& 31))), .int (v2 + 1)]) dX0_naked_26 rfl rfl (by decide) rfl rfl ?_
      refine R_goto 4 dX0_naked_29 (by decide) ?_
      exact h G l hp hB hR
theorem gc_X0_rags_0 {d : Nat} {c k : Nat} {ρ : Rho} {E : Hp → Prop} {A : Nat → Nat} {σ σ1 : Sg} {r : Option Value} (h : Rv ρ E A mX0_rags (d + 304) c k 4 [.ref (A 0), .int 0, .int 0] [] σ r σ1) : Rv ρ E A mX0_rags (d + 304) c k 0 [.ref (A 0), U_, U_] [] σ r σ1 := by
  intro G l hp hB hR
  refine R_iconst (v := 0) dX0_rags_0 (by decide) ?_
  refine S_istore_n (ls1 := [.ref (A 0), .int 0, U_]) dX0_rags_1 (by decide) rfl rfl ?_
  refine R_iconst (v := 0) dX0_rags_2 (by decide) ?_
  refine S_istore_n (ls1 := [.ref (A 0), .int 0, .int 0]) dX0_rags_3 (by decide) rfl rfl ?_
  exact h G l hp hB hR
theorem gc_X0_rags_4 {d : Nat} {v1 : Int32} {v2 : Int32} {c k : Nat} {ρ : Rho} {E : Hp → Prop} {A : Nat → Nat} {σ σ1 : Sg} {r : Option Value} (h : ∃ (r3 : Int32) (σ_1 : Sg), Tv ρ E A mX0_coats (d + 303) 0 0 [.ref (A 0)] σ (some (.int r3)) σ_1 ∧ (((r3 ≤ v2) → r = some (.int v1) ∧ σ1 = σ_1) ∧ ((¬ r3 ≤ v2) → ∃ (r7 : Int32) (σ_5 : Sg), Tv ρ E A mX0_popular (d + 303) 0 0 [.ref (A 0), .int v2] σ_1 (some (.int r7)) σ_5 ∧ (((¬ r7 = 0) → Rv ρ E A mX0_rags (d + 304) c k 4 [.ref (A 0), .int v1, .int (v2 + 1)] [] σ_5 r σ1) ∧ ((r7 = 0) → Rv ρ E A mX0_rags (d + 304) c k 4 [.ref (A 0), .int (v1 ||| (1 <<< (v2 &&& 31))), .int (v2 + 1)] [] σ_5 r σ1))))) : Rv ρ E A mX0_rags (d + 304) c k 4 [.ref (A 0), .int v1, .int v2] [] σ r σ1 := by
  intro G l hp hB hR
  refine R_iload_n dX0_rags_4 rfl ?_
  refine R_aload_n dX0_rags_5 rfl ?_
  obtain ⟨r3, σ_1, e2, h⟩ := h
  refine V_call (o := 0) [] hB hR dX0_rags_6 cv_X0_149 rfl rfl (Nat.le_of_ble_eq_true rfl) ⟨by decide, rfl⟩ rfl e2 (Nat.zero_le _) (Nat.zero_le _) (fun hp hB => ?_)
  show RnH [] G l mX0_rags (d + 304) (PV ρ E A r σ1) noX 9 [.ref (A 0), .int v1, .int v2] [.int r3, .int v2] (ov rgM A σ_1 hp) c k
  have hR : σ_1.2.2 0 0 = .ref (ρ.1 2) := by rw [e2.1]; exact hR
  refine R_icmp_ge 32 dX0_rags_9 (by decide) (fun c4 => ?_) (fun c4 => ?_)
  · replace h := h.1 c4
    refine R_iload_n dX0_rags_32 rfl ?_
    exact R_iret dX0_rags_33 rfl rfl ⟨h.1.symm, hp, hB, by rw [h.2]⟩
  · replace h := h.2 c4
    refine R_aload_n dX0_rags_12 rfl ?_
    refine R_iload_n dX0_rags_13 rfl ?_
    obtain ⟨r7, σ_5, e6, h⟩ := h
    refine V_call (o := 0) [.int v2] hB hR dX0_rags_14 cv_X0_331 rfl rfl (Nat.le_of_ble_eq_true rfl) ⟨by decide, rfl⟩ rfl e6 (Nat.zero_le _) (Nat.zero_le _) (fun hp hB => ?_)
    show RnH [] G l mX0_rags (d + 304) (PV ρ E A r σ1) noX 17 [.ref (A 0), .int v1, .int v2] [.int r7] (ov rgM A σ_5 hp) c k
    have hR : σ_5.2.2 0 0 = .ref (ρ.1 2) := by rw [e6.1]; exact hR
    refine R_if_ne 26 dX0_rags_17 (by decide) (fun c8 => ?_) (fun c8 => ?_)
    · replace h := h.1 c8
      refine S_iinc (v := v2 + 1) (ls1 := [.ref (A 0), .int v1, .int (v2 + 1)]) dX0_rags_26 rfl rfl (by decide) rfl rfl ?_
      refine R_goto 4 dX0_rags_29 (by decide) ?_
      exact h G l hp hB hR
    · replace h := h.2 c8
      refine R_iload_n dX0_rags_20 rfl ?_
      refine R_iconst (v := 1) dX0_rags_21 (by decide) ?_
      refine R_iload_n dX0_rags_22 rfl ?_
      refine R_ishl dX0_rags_23 ?_
      refine R_ior dX0_rags_24 ?_
      refine S_istore_n (ls1 := [.ref (A 0), .int (v1 ||| (1 <<< (v2 &&& 31))), .int v2]) dX0_rags_25 (by decide) rfl rfl ?_
      refine S_iinc (v := v2 + 1) (ls1 := [.ref (A 0), .int (v1 ||| (1 <<< (v2 &&& 31))), .int (v2 + 1)]) dX0_rags_26 rfl rfl (by decide) rfl rfl ?_
      refine R_goto 4 dX0_rags_29 (by decide) ?_
      exact h G l hp hB hR
theorem gc_X0_reach_0 {d : Nat} {v1 : Int32} {v2 : Int32} {c k : Nat} {ρ : Rho} {E : Hp → Prop} {A : Nat → Nat} {σ σ1 : Sg} {r : Option Value} (h : Rv ρ E A mX0_reach (d + 304) c k 10 [.ref (A 0), .int v1, .int v2, .int 0, .int 0, U_, U_] [] (upA σ.1 0 (upd (σ.1 0) 13 0), σ.2) r σ1) : Rv ρ E A mX0_reach (d + 304) c k 0 [.ref (A 0), .int v1, .int v2, U_, U_, U_, U_] [] σ r σ1 := by
  intro G l hp hB hR
  refine R_aload_n dX0_reach_0 rfl ?_
  refine R_iconst (v := 0) dX0_reach_1 (by decide) ?_
  refine V_put (o := 0) (σ9 := (upA σ.1 0 (upd (σ.1 0) 13 0), σ.2)) hB.1 dX0_reach_2 fm_X0_112_1 ft_1_13 rfl rfl ⟨by decide, by decide, rfl, rfl⟩ rfl ?_
  refine R_iconst (v := 0) dX0_reach_5 (by decide) ?_
  refine S_istore_n (ls1 := [.ref (A 0), .int v1, .int v2, .int 0, U_, U_, U_]) dX0_reach_6 (by decide) rfl rfl ?_
  refine R_iconst (v := 0) dX0_reach_7 (by decide) ?_
  refine S_istore (ls1 := [.ref (A 0), .int v1, .int v2, .int 0, .int 0, U_, U_]) dX0_reach_8 (by decide) rfl rfl ?_
  exact h G l hp hB hR
theorem gc_X0_reach_10 {d : Nat} {v1 : Int32} {v2 : Int32} {v3 : Int32} {v4 : Int32} {c k : Nat} {ρ : Rho} {E : Hp → Prop} {A : Nat → Nat} {σ σ1 : Sg} {r : Option Value} (h : ∃ (r3 : Int32) (σ_1 : Sg), Tv ρ E A mX0_coats (d + 303) 0 0 [.ref (A 0)] σ (some (.int r3)) σ_1 ∧ (((r3 ≤ v4) → ∃ (r7 : Int32) (σ_5 : Sg), Tv ρ E A mX0_isMan (d + 303) 0 0 [.ref (A 0), .int v1] σ_1 (some (.int r7)) σ_5 ∧ (((r7 = 0) → r = some (.int (-1)) ∧ σ1 = σ_5) ∧ ((¬ r7 = 0) → ∃ (r11 : Int32) (σ_9 : Sg), Tv ρ E A mX0_isMan (d + 303) 0 0 [.ref (A 0), .int v2] σ_5 (some (.int r11)) σ_9 ∧ (((r11 = 0) → r = some (.int (-1)) ∧ σ1 = σ_9) ∧ ((¬ r11 = 0) → ((v1 = v2) → r = some (.int (-1)) ∧ σ1 = σ_9) ∧ ((¬ v1 = v2) → ((¬ v3 = 0) → Rv ρ E A mX0_reach (d + 304) c k 77 [.ref (A 0), .int v1, .int v2, .int v3, .int 0, .int 0, U_] [] σ_9 r σ1) ∧ ((v3 = 0) → r = some (.int (-1)) ∧ σ1 = σ_9))))))) ∧ ((¬ r3 ≤ v4) → ∃ (r17 : Int32) (σ_15 : Sg), Tv ρ E A mX2_wearer (d + 303) 0 0 [.ref (A 1), .int v4] σ_1 (some (.int r17)) σ_15 ∧ (((0 ≤ r17) → Rv ρ E A mX0_reach (d + 304) c k 10 [.ref (A 0), .int v1, .int v2, .int v3, .int (v4 + 1), U_, U_] [] σ_15 r σ1) ∧ ((¬ 0 ≤ r17) → Rv ρ E A mX0_reach (d + 304) c k 10 [.ref (A 0), .int v1, .int v2, .int (v3 ||| (1 <<< (v4 &&& 31))), .int (v4 + 1), U_, U_] [] σ_15 r σ1))))) : Rv ρ E A mX0_reach (d + 304) c k 10 [.ref (A 0), .int v1, .int v2, .int v3, .int v4, U_, U_] [] σ r σ1 := by
  intro G l hp hB hR
  refine R_iload dX0_reach_10 rfl ?_
  refine R_aload_n dX0_reach_12 rfl ?_
  obtain ⟨r3, σ_1, e2, h⟩ := h
  refine V_call (o := 0) [] hB hR dX0_reach_13 cv_X0_149 rfl rfl (Nat.le_of_ble_eq_true rfl) ⟨by decide, rfl⟩ rfl e2 (Nat.zero_le _) (Nat.zero_le _) (fun hp hB => ?_)
  show RnH [] G l mX0_reach (d + 304) (PV ρ E A r σ1) noX 16 [.ref (A 0), .int v1, .int v2, .int v3, .int v4, U_, U_] [.int r3, .int v4] (ov rgM A σ_1 hp) c k
  have hR : σ_1.2.2 0 0 = .ref (ρ.1 2) := by rw [e2.1]; exact hR
  refine R_icmp_ge 44 dX0_reach_16 (by decide) (fun c4 => ?_) (fun c4 => ?_)
  · replace h := h.1 c4
    refine R_aload_n dX0_reach_44 rfl ?_
    refine R_iload_n dX0_reach_45 rfl ?_
    obtain ⟨r7, σ_5, e6, h⟩ := h
    refine V_call (o := 0) [.int v1] hB hR dX0_reach_46 cv_X0_180 rfl rfl (Nat.le_of_ble_eq_true rfl) ⟨by decide, rfl⟩ rfl e6 (Nat.zero_le _) (Nat.zero_le _) (fun hp hB => ?_)
    show RnH [] G l mX0_reach (d + 304) (PV ρ E A r σ1) noX 49 [.ref (A 0), .int v1, .int v2, .int v3, .int v4, U_, U_] [.int r7] (ov rgM A σ_5 hp) c k
    have hR : σ_5.2.2 0 0 = .ref (ρ.1 2) := by rw [e6.1]; exact hR
    refine R_if_eq 69 dX0_reach_49 (by decide) (fun c8 => ?_) (fun c8 => ?_)
    · replace h := h.1 c8
      refine R_iconst (v := (-1)) dX0_reach_69 (by decide) ?_
      exact R_iret dX0_reach_70 rfl rfl ⟨h.1.symm, hp, hB, by rw [h.2]⟩
    · replace h := h.2 c8
      refine R_aload_n dX0_reach_52 rfl ?_
      refine R_iload_n dX0_reach_53 rfl ?_
      obtain ⟨r11, σ_9, e10, h⟩ := h
      refine V_call (o := 0) [.int v2] hB hR dX0_reach_54 cv_X0_180 rfl rfl (Nat.le_of_ble_eq_true rfl) ⟨by decide, rfl⟩ rfl e10 (Nat.zero_le _) (Nat.zero_le _) (fun hp hB => ?_)
      show RnH [] G l mX0_reach (d + 304) (PV ρ E A r σ1) noX 57 [.ref (A 0), .int v1, .int v2, .int v3, .int v4, U_, U_] [.int r11] (ov rgM A σ_9 hp) c k
      have hR : σ_9.2.2 0 0 = .ref (ρ.1 2) := by rw [e10.1]; exact hR
      refine R_if_eq 69 dX0_reach_57 (by decide) (fun c12 => ?_) (fun c12 => ?_)
      · replace h := h.1 c12
        refine R_iconst (v := (-1)) dX0_reach_69 (by decide) ?_
        exact R_iret dX0_reach_70 rfl rfl ⟨h.1.symm, hp, hB, by rw [h.2]⟩
      · replace h := h.2 c12
        refine R_iload_n dX0_reach_60 rfl ?_
        refine R_iload_n dX0_reach_61 rfl ?_
        refine R_icmp_eq 69 dX0_reach_62 (by decide) (fun c13 => ?_) (fun c13 => ?_)
        · replace h := h.1 c13
          refine R_iconst (v := (-1)) dX0_reach_69 (by decide) ?_
          exact R_iret dX0_reach_70 rfl rfl ⟨h.1.symm, hp, hB, by rw [h.2]⟩
        · replace h := h.2 c13
          refine R_iload_n dX0_reach_65 rfl ?_
          refine R_if_ne 71 dX0_reach_66 (by decide) (fun c14 => ?_) (fun c14 => ?_)
          · replace h := h.1 c14
            refine R_iconst (v := 0) dX0_reach_71 (by decide) ?_
            refine S_istore (ls1 := [.ref (A 0), .int v1, .int v2, .int v3, .int 0, U_, U_]) dX0_reach_72 (by decide) rfl rfl ?_
            refine R_iconst (v := 0) dX0_reach_74 (by decide) ?_
            refine S_istore (ls1 := [.ref (A 0), .int v1, .int v2, .int v3, .int 0, .int 0, U_]) dX0_reach_75 (by decide) rfl rfl ?_
            exact h G l hp hB hR
          · replace h := h.2 c14
            refine R_iconst (v := (-1)) dX0_reach_69 (by decide) ?_
            exact R_iret dX0_reach_70 rfl rfl ⟨h.1.symm, hp, hB, by rw [h.2]⟩
  · replace h := h.2 c4
    refine R_aload_n dX0_reach_19 rfl ?_
    refine V_geta (o := 0) (q := 1) hB.1 dX0_reach_20 fm_X0_28_1 ⟨by decide, by decide, rfl, rfl⟩ ?_
    refine R_iload dX0_reach_23 rfl ?_
    obtain ⟨r17, σ_15, e16, h⟩ := h
    refine V_call (o := 1) [.int v4] hB hR dX0_reach_25 cv_X0_222 rfl rfl (Nat.le_of_ble_eq_true rfl) ⟨by decide, rfl⟩ rfl e16 (Nat.zero_le _) (Nat.zero_le _) (fun hp hB => ?_)
    show RnH [] G l mX0_reach (d + 304) (PV ρ E A r σ1) noX 28 [.ref (A 0), .int v1, .int v2, .int v3, .int v4, U_, U_] [.int r17] (ov rgM A σ_15 hp) c k
    have hR : σ_15.2.2 0 0 = .ref (ρ.1 2) := by rw [e16.1]; exact hR
    refine R_if_ge 38 dX0_reach_28 (by decide) (fun c18 => ?_) (fun c18 => ?_)
    · replace h := h.1 c18
      refine S_iinc (v := v4 + 1) (ls1 := [.ref (A 0), .int v1, .int v2, .int v3, .int (v4 + 1), U_, U_]) dX0_reach_38 rfl rfl (by decide) rfl rfl ?_
      refine R_goto 10 dX0_reach_41 (by decide) ?_
      exact h G l hp hB hR
    · replace h := h.2 c18
      refine R_iload_n dX0_reach_31 rfl ?_
      refine R_iconst (v := 1) dX0_reach_32 (by decide) ?_
      refine R_iload dX0_reach_33 rfl ?_
      refine R_ishl dX0_reach_35 ?_
      refine R_ior dX0_reach_36 ?_
      refine S_istore_n (ls1 := [.ref (A 0), .int v1, .int v2, .int (v3 ||| (1 <<< (v4 &&& 31))), .int v4, U_, U_]) dX0_reach_37 (by decide) rfl rfl ?_
      refine S_iinc (v := v4 + 1) (ls1 := [.ref (A 0), .int v1, .int v2, .int (v3 ||| (1 <<< (v4 &&& 31))), .int (v4 + 1), U_, U_]) dX0_reach_38 rfl rfl (by decide) rfl rfl ?_
      refine R_goto 10 dX0_reach_41 (by decide) ?_
      exact h G l hp hB hR
theorem gc_X0_reach_77 {d : Nat} {v1 : Int32} {v2 : Int32} {v3 : Int32} {v4 : Int32} {v5 : Int32} {c k : Nat} {ρ : Rho} {E : Hp → Prop} {A : Nat → Nat} {σ σ1 : Sg} {r : Option Value} (h : ∃ (r3 : Int32) (σ_1 : Sg), Tv ρ E A mX0_coats (d + 303) 0 0 [.ref (A 0)] σ (some (.int r3)) σ_1 ∧ (((r3 ≤ v5) → r = some (.int v4) ∧ σ1 = σ_1) ∧ ((¬ r3 ≤ v5) → Rv ρ E A mX0_reach (d + 304) c k 89 [.ref (A 0), .int v1, .int v2, .int v3, .int v4, .int v5, .int 0] [] σ_1 r σ1))) : Rv ρ E A mX0_reach (d + 304) c k 77 [.ref (A 0), .int v1, .int v2, .int v3, .int v4, .int v5, U_] [] σ r σ1 := by
  intro G l hp hB hR
  refine R_iload dX0_reach_77 rfl ?_
  refine R_aload_n dX0_reach_79 rfl ?_
  obtain ⟨r3, σ_1, e2, h⟩ := h
  refine V_call (o := 0) [] hB hR dX0_reach_80 cv_X0_149 rfl rfl (Nat.le_of_ble_eq_true rfl) ⟨by decide, rfl⟩ rfl e2 (Nat.zero_le _) (Nat.zero_le _) (fun hp hB => ?_)
  show RnH [] G l mX0_reach (d + 304) (PV ρ E A r σ1) noX 83 [.ref (A 0), .int v1, .int v2, .int v3, .int v4, .int v5, U_] [.int r3, .int v5] (ov rgM A σ_1 hp) c k
  have hR : σ_1.2.2 0 0 = .ref (ρ.1 2) := by rw [e2.1]; exact hR
  refine R_icmp_ge 177 dX0_reach_83 (by decide) (fun c4 => ?_) (fun c4 => ?_)
  · replace h := h.1 c4
    refine R_iload dX0_reach_177 rfl ?_
    exact R_iret dX0_reach_179 rfl rfl ⟨h.1.symm, hp, hB, by rw [h.2]⟩
  · replace h := h.2 c4
    refine R_iconst (v := 0) dX0_reach_86 (by decide) ?_
    refine S_istore (ls1 := [.ref (A 0), .int v1, .int v2, .int v3, .int v4, .int v5, .int 0]) dX0_reach_87 (by decide) rfl rfl ?_
    exact h G l hp hB hR
theorem gc_X0_reach_89 {d : Nat} {v1 : Int32} {v2 : Int32} {v3 : Int32} {v4 : Int32} {v5 : Int32} {v6 : Int32} {c k : Nat} {ρ : Rho} {E : Hp → Prop} {A : Nat → Nat} {σ σ1 : Sg} {r : Option Value} (h : ∃ (r3 : Int32) (σ_1 : Sg), Tv ρ E A mX0_coats (d + 303) 0 0 [.ref (A 0)] σ (some (.int r3)) σ_1 ∧ (((r3 ≤ v6) → Rv ρ E A mX0_reach (d + 304) c k 77 [.ref (A 0), .int v1, .int v2, .int v3, .int v4, .int (v5 + 1), U_] [] σ_1 r σ1) ∧ ((¬ r3 ≤ v6) → (((s0_has v3 v5) = 0) → Rv ρ E A mX0_reach (d + 304) c k 89 [.ref (A 0), .int v1, .int v2, .int v3, .int v4, .int v5, .int (v6 + 1)] [] σ_1 r σ1) ∧ ((¬ (s0_has v3 v5) = 0) → (((s0_has v3 v6) = 0) → Rv ρ E A mX0_reach (d + 304) c k 89 [.ref (A 0), .int v1, .int v2, .int v3, .int v4, .int v5, .int (v6 + 1)] [] σ_1 r σ1) ∧ ((¬ (s0_has v3 v6) = 0) → ∃ (r9 : Int32) (σ_7 : Sg), Tv ρ E A mX0_rests (d + 303) 0 0 [.ref (A 0), .int v1, .int v2, .int v5, .int v6] σ_1 (some (.int r9)) σ_7 ∧ (((¬ r9 = 0) → (((v4 + 1) ≤ 1) → Rv ρ E A mX0_reach (d + 304) c k 89 [.ref (A 0), .int v1, .int v2, .int v3, .int (v4 + 1), .int v5, .int (v6 + 1)] [] (upA (upA σ_7.1 19 (upd (upd (σ_7.1 19) 0 v5) 1 v6)) 0 (upd (σ_7.1 0) 13 2), σ_7.2) r σ1) ∧ ((¬ (v4 + 1) ≤ 1) → Rv ρ E A mX0_reach (d + 304) c k 89 [.ref (A 0), .int v1, .int v2, .int v3, .int (v4 + 1), .int v5, .int (v6 + 1)] [] σ_7 r σ1)) ∧ ((r9 = 0) → Rv ρ E A mX0_reach (d + 304) c k 89 [.ref (A 0), .int v1, .int v2, .int v3, .int v4, .int v5, .int (v6 + 1)] [] σ_7 r σ1))))))) : Rv ρ E A mX0_reach (d + 304) c k 89 [.ref (A 0), .int v1, .int v2, .int v3, .int v4, .int v5, .int v6] [] σ r σ1 := by
  intro G l hp hB hR
  refine R_iload dX0_reach_89 rfl ?_
  refine R_aload_n dX0_reach_91 rfl ?_
  obtain ⟨r3, σ_1, e2, h⟩ := h
  refine V_call (o := 0) [] hB hR dX0_reach_92 cv_X0_149 rfl rfl (Nat.le_of_ble_eq_true rfl) ⟨by decide, rfl⟩ rfl e2 (Nat.zero_le _) (Nat.zero_le _) (fun hp hB => ?_)
  show RnH [] G l mX0_reach (d + 304) (PV ρ E A r σ1) noX 95 [.ref (A 0), .int v1, .int v2, .int v3, .int v4, .int v5, .int v6] [.int r3, .int v6] (ov rgM A σ_1 hp) c k
  have hR : σ_1.2.2 0 0 = .ref (ρ.1 2) := by rw [e2.1]; exact hR
  refine R_icmp_ge 171 dX0_reach_95 (by decide) (fun c4 => ?_) (fun c4 => ?_)
  · replace h := h.1 c4
    refine S_iinc (v := v5 + 1) (ls1 := [.ref (A 0), .int v1, .int v2, .int v3, .int v4, .int (v5 + 1), .int v6]) dX0_reach_171 rfl rfl (by decide) rfl rfl ?_
    refine R_goto 77 dX0_reach_174 (by decide) ?_
    refine R_drop 6 ?_
    exact h G l hp hB hR
  · replace h := h.2 c4
    refine R_iload_n dX0_reach_98 rfl ?_
    refine R_iload dX0_reach_99 rfl ?_
    refine V_callS [.int v3, .int v5] dX0_reach_101 cs_X0_239 rfl rfl (Nat.le_of_ble_eq_true rfl) (s0t_has (d + 302) v3 v5) ?_
    show RnH [] G l mX0_reach (d + 304) (PV ρ E A r σ1) noX 104 [.ref (A 0), .int v1, .int v2, .int v3, .int v4, .int v5, .int v6] [.int (s0_has v3 v5)] (ov rgM A σ_1 hp) c k
    refine R_if_eq 165 dX0_reach_104 (by decide) (fun c5 => ?_) (fun c5 => ?_)
    · replace h := h.1 c5
      refine S_iinc (v := v6 + 1) (ls1 := [.ref (A 0), .int v1, .int v2, .int v3, .int v4, .int v5, .int (v6 + 1)]) dX0_reach_165 rfl rfl (by decide) rfl rfl ?_
      refine R_goto 89 dX0_reach_168 (by decide) ?_
      exact h G l hp hB hR
    · replace h := h.2 c5
      refine R_iload_n dX0_reach_107 rfl ?_
      refine R_iload dX0_reach_108 rfl ?_
      refine V_callS [.int v3, .int v6] dX0_reach_110 cs_X0_239 rfl rfl (Nat.le_of_ble_eq_true rfl) (s0t_has (d + 302) v3 v6) ?_
      show RnH [] G l mX0_reach (d + 304) (PV ρ E A r σ1) noX 113 [.ref (A 0), .int v1, .int v2, .int v3, .int v4, .int v5, .int v6] [.int (s0_has v3 v6)] (ov rgM A σ_1 hp) c k
      refine R_if_eq 165 dX0_reach_113 (by decide) (fun c6 => ?_) (fun c6 => ?_)
      · replace h := h.1 c6
        refine S_iinc (v := v6 + 1) (ls1 := [.ref (A 0), .int v1, .int v2, .int v3, .int v4, .int v5, .int (v6 + 1)]) dX0_reach_165 rfl rfl (by decide) rfl rfl ?_
        refine R_goto 89 dX0_reach_168 (by decide) ?_
        exact h G l hp hB hR
      · replace h := h.2 c6
        refine R_aload_n dX0_reach_116 rfl ?_
        refine R_iload_n dX0_reach_117 rfl ?_
        refine R_iload_n dX0_reach_118 rfl ?_
        refine R_iload dX0_reach_119 rfl ?_
        refine R_iload dX0_reach_121 rfl ?_
        obtain ⟨r9, σ_7, e8, h⟩ := h
        refine V_call (o := 0) [.int v1, .int v2, .int v5, .int v6] hB hR dX0_reach_123 cv_X0_328 rfl rfl (Nat.le_of_ble_eq_true rfl) ⟨by decide, rfl⟩ rfl e8 (Nat.zero_le _) (Nat.zero_le _) (fun hp hB => ?_)
        show RnH [] G l mX0_reach (d + 304) (PV ρ E A r σ1) noX 126 [.ref (A 0), .int v1, .int v2, .int v3, .int v4, .int v5, .int v6] [.int r9] (ov rgM A σ_7 hp) c k
        have hR : σ_7.2.2 0 0 = .ref (ρ.1 2) := by rw [e8.1]; exact hR
        refine R_if_ne 132 dX0_reach_126 (by decide) (fun c10 => ?_) (fun c10 => ?_)
        · replace h := h.1 c10
          refine S_iinc (v := v4 + 1) (ls1 := [.ref (A 0), .int v1, .int v2, .int v3, .int (v4 + 1), .int v5, .int v6]) dX0_reach_132 rfl rfl (by decide) rfl rfl ?_
          refine R_iload dX0_reach_135 rfl ?_
          refine R_iconst (v := 1) dX0_reach_137 (by decide) ?_
          refine R_icmp_le 144 dX0_reach_138 (by decide) (fun c11 => ?_) (fun c11 => ?_)
          · replace h := h.1 c11
            refine R_aload_n dX0_reach_144 rfl ?_
            refine V_geta (o := 0) (q := 19) hB.1 dX0_reach_145 fm_X0_60_1 ⟨by decide, by decide, rfl, rfl⟩ ?_
            refine R_iconst (v := 0) dX0_reach_148 (by decide) ?_
            refine R_iload dX0_reach_149 rfl ?_
            refine V_iast (o := 19) (σ9 := (upA σ_7.1 19 (upd (σ_7.1 19) 0 v5), σ_7.2)) hB.1 dX0_reach_151 ⟨by decide, rfl⟩ (by unfold vp_in; decide) rfl ?_
            refine R_aload_n dX0_reach_152 rfl ?_
            refine V_geta (o := 0) (q := 19) hB.1 dX0_reach_153 fm_X0_60_1 ⟨by decide, by decide, rfl, rfl⟩ ?_
            refine R_iconst (v := 1) dX0_reach_156 (by decide) ?_
            refine R_iload dX0_reach_157 rfl ?_
            refine V_iast (o := 19) (σ9 := (upA σ_7.1 19 (upd (upd (σ_7.1 19) 0 v5) 1 v6), σ_7.2)) hB.1 dX0_reach_159 ⟨by decide, rfl⟩ (by unfold vp_in; decide) (up8c σ_7.1 19 (upd (σ_7.1 19) 0 v5) (upd (upd (σ_7.1 19) 0 v5) 1 v6) σ_7.2) ?_
            refine R_aload_n dX0_reach_160 rfl ?_
            refine R_iconst (v := 2) dX0_reach_161 (by decide) ?_
            refine V_put (o := 0) (σ9 := (upA (upA σ_7.1 19 (upd (upd (σ_7.1 19) 0 v5) 1 v6)) 0 (upd (σ_7.1 0) 13 2), σ_7.2)) hB.1 dX0_reach_162 fm_X0_112_1 ft_1_13 rfl rfl ⟨by decide, by decide, rfl, rfl⟩ rfl ?_
            refine S_iinc (v := v6 + 1) (ls1 := [.ref (A 0), .int v1, .int v2, .int v3, .int (v4 + 1), .int v5, .int (v6 + 1)]) dX0_reach_165 rfl rfl (by decide) rfl rfl ?_
            refine R_goto 89 dX0_reach_168 (by decide) ?_
            exact h G l hp hB hR
          · replace h := h.2 c11
            refine R_goto 165 dX0_reach_141 (by decide) ?_
            refine S_iinc (v := v6 + 1) (ls1 := [.ref (A 0), .int v1, .int v2, .int v3, .int (v4 + 1), .int v5, .int (v6 + 1)]) dX0_reach_165 rfl rfl (by decide) rfl rfl ?_
            refine R_goto 89 dX0_reach_168 (by decide) ?_
            exact h G l hp hB hR
        · replace h := h.2 c10
          refine R_goto 165 dX0_reach_129 (by decide) ?_
          refine S_iinc (v := v6 + 1) (ls1 := [.ref (A 0), .int v1, .int v2, .int v3, .int v4, .int v5, .int (v6 + 1)]) dX0_reach_165 rfl rfl (by decide) rfl rfl ?_
          refine R_goto 89 dX0_reach_168 (by decide) ?_
          exact h G l hp hB hR
theorem gc_X0_sewing_0 {d : Nat} {v1 : Int32} {v2 : Int32} {v3 : Int32} {c k : Nat} {ρ : Rho} {E : Hp → Prop} {A : Nat → Nat} {σ σ1 : Sg} {r : Option Value} (h : ∃ (r3 : Int32) (σ_1 : Sg), Tv ρ E A mX0_isCoat (d + 303) 0 0 [.ref (A 0), .int v1] σ (some (.int r3)) σ_1 ∧ (((r3 = 0) → r = some (.int (-100)) ∧ σ1 = σ_1) ∧ ((¬ r3 = 0) → ∃ (r7 : Int32) (σ_5 : Sg), Tv ρ E A mX0_isMan (d + 303) 0 0 [.ref (A 0), .int v2] σ_1 (some (.int r7)) σ_5 ∧ (((r7 = 0) → r = some (.int (-100)) ∧ σ1 = σ_5) ∧ ((¬ r7 = 0) → ((¬ (s0_isIn v3 0 2) = 0) → Rv ρ E A mX0_sewing (d + 304) c k 31 [.ref (A 0), .int v1, .int v2, .int v3, .int 0, U_, U_, U_] [] σ_5 r σ1) ∧ (((s0_isIn v3 0 2) = 0) → r = some (.int (-100)) ∧ σ1 = σ_5)))))) : Rv ρ E A mX0_sewing (d + 304) c k 0 [.ref (A 0), .int v1, .int v2, .int v3, U_, U_, U_, U_] [] σ r σ1 := by
  intro G l hp hB hR
  refine R_aload_n dX0_sewing_0 rfl ?_
  refine R_iload_n dX0_sewing_1 rfl ?_
  obtain ⟨r3, σ_1, e2, h⟩ := h
  refine V_call (o := 0) [.int v1] hB hR dX0_sewing_2 cv_X0_205 rfl rfl (Nat.le_of_ble_eq_true rfl) ⟨by decide, rfl⟩ rfl e2 (Nat.zero_le _) (Nat.zero_le _) (fun hp hB => ?_)
  show RnH [] G l mX0_sewing (d + 304) (PV ρ E A r σ1) noX 5 [.ref (A 0), .int v1, .int v2, .int v3, U_, U_, U_, U_] [.int r3] (ov rgM A σ_1 hp) c k
  have hR : σ_1.2.2 0 0 = .ref (ρ.1 2) := by rw [e2.1]; exact hR
  refine R_if_eq 25 dX0_sewing_5 (by decide) (fun c4 => ?_) (fun c4 => ?_)
  · replace h := h.1 c4
    refine R_bipush (v := (-100)) dX0_sewing_25 (by decide) ?_
    exact R_iret dX0_sewing_27 rfl rfl ⟨h.1.symm, hp, hB, by rw [h.2]⟩
  · replace h := h.2 c4
    refine R_aload_n dX0_sewing_8 rfl ?_
    refine R_iload_n dX0_sewing_9 rfl ?_
    obtain ⟨r7, σ_5, e6, h⟩ := h
    refine V_call (o := 0) [.int v2] hB hR dX0_sewing_10 cv_X0_180 rfl rfl (Nat.le_of_ble_eq_true rfl) ⟨by decide, rfl⟩ rfl e6 (Nat.zero_le _) (Nat.zero_le _) (fun hp hB => ?_)
    show RnH [] G l mX0_sewing (d + 304) (PV ρ E A r σ1) noX 13 [.ref (A 0), .int v1, .int v2, .int v3, U_, U_, U_, U_] [.int r7] (ov rgM A σ_5 hp) c k
    have hR : σ_5.2.2 0 0 = .ref (ρ.1 2) := by rw [e6.1]; exact hR
    refine R_if_eq 25 dX0_sewing_13 (by decide) (fun c8 => ?_) (fun c8 => ?_)
    · replace h := h.1 c8
      refine R_bipush (v := (-100)) dX0_sewing_25 (by decide) ?_
      exact R_iret dX0_sewing_27 rfl rfl ⟨h.1.symm, hp, hB, by rw [h.2]⟩
    · replace h := h.2 c8
      refine R_iload_n dX0_sewing_16 rfl ?_
      refine R_iconst (v := 0) dX0_sewing_17 (by decide) ?_
      refine R_iconst (v := 2) dX0_sewing_18 (by decide) ?_
      refine V_callS [.int v3, .int 0, .int 2] dX0_sewing_19 cs_X0_145 rfl rfl (Nat.le_of_ble_eq_true rfl) (s0t_isIn (d + 302) v3 0 2) ?_
      show RnH [] G l mX0_sewing (d + 304) (PV ρ E A r σ1) noX 22 [.ref (A 0), .int v1, .int v2, .int v3, U_, U_, U_, U_] [.int (s0_isIn v3 0 2)] (ov rgM A σ_5 hp) c k
      refine R_if_ne 28 dX0_sewing_22 (by decide) (fun c9 => ?_) (fun c9 => ?_)
      · replace h := h.1 c9
        refine R_iconst (v := 0) dX0_sewing_28 (by decide) ?_
        refine S_istore (ls1 := [.ref (A 0), .int v1, .int v2, .int v3, .int 0, U_, U_, U_]) dX0_sewing_29 (by decide) rfl rfl ?_
        exact h G l hp hB hR
      · replace h := h.2 c9
        refine R_bipush (v := (-100)) dX0_sewing_25 (by decide) ?_
        exact R_iret dX0_sewing_27 rfl rfl ⟨h.1.symm, hp, hB, by rw [h.2]⟩
theorem gc_X0_sewing_31 {d : Nat} {v1 : Int32} {v2 : Int32} {v3 : Int32} {v4 : Int32} {c k : Nat} {ρ : Rho} {E : Hp → Prop} {A : Nat → Nat} {σ σ1 : Sg} {r : Option Value} (h : ((40 < v4) → r = some (.int (-100)) ∧ σ1 = σ) ∧ ((¬ 40 < v4) → Rv ρ E A mX0_sewing (d + 304) c k 49 [.ref (A 0), .int v1, .int v2, .int v3, .int v4, .int (sj_max 0 (v4 - 20)), U_, U_] [] σ r σ1)) : Rv ρ E A mX0_sewing (d + 304) c k 31 [.ref (A 0), .int v1, .int v2, .int v3, .int v4, U_, U_, U_] [] σ r σ1 := by
  intro G l hp hB hR
  refine R_iload dX0_sewing_31 rfl ?_
  refine R_bipush (v := 40) dX0_sewing_33 (by decide) ?_
  refine R_icmp_gt 147 dX0_sewing_35 (by decide) (fun c1 => ?_) (fun c1 => ?_)
  · replace h := h.1 c1
    refine R_bipush (v := (-100)) dX0_sewing_147 (by decide) ?_
    exact R_iret dX0_sewing_149 rfl rfl ⟨h.1.symm, hp, hB, by rw [h.2]⟩
  · replace h := h.2 c1
    refine R_iconst (v := 0) dX0_sewing_38 (by decide) ?_
    refine R_iload dX0_sewing_39 rfl ?_
    refine R_bipush (v := 20) dX0_sewing_41 (by decide) ?_
    refine R_isub dX0_sewing_43 ?_
    refine R_mmax dX0_sewing_44 q1048 (Nat.le_of_ble_eq_true rfl) ?_
    refine S_istore (ls1 := [.ref (A 0), .int v1, .int v2, .int v3, .int v4, .int (sj_max 0 (v4 - 20)), U_, U_]) dX0_sewing_47 (by decide) rfl rfl ?_
    exact h G l hp hB hR
theorem gc_X0_sewing_49 {d : Nat} {v1 : Int32} {v2 : Int32} {v3 : Int32} {v4 : Int32} {v5 : Int32} {c k : Nat} {ρ : Rho} {E : Hp → Prop} {A : Nat → Nat} {σ σ1 : Sg} {r : Option Value} (h : (((sj_min v4 20) < v5) → Rv ρ E A mX0_sewing (d + 304) c k 31 [.ref (A 0), .int v1, .int v2, .int v3, .int (v4 + 1), U_, U_, U_] [] σ r σ1) ∧ ((¬ (sj_min v4 20) < v5) → ∃ (r4 : Int32) (σ_2 : Sg), Tv ρ E A mX0_doesFit (d + 303) 0 0 [.ref (A 0), .int v1, .int v2, .int (v4 - v5), .int v5] σ (some (.int r4)) σ_2 ∧ (((¬ r4 = 0) → Rv ρ E A mX0_sewing (d + 304) c k 102 [.ref (A 0), .int v1, .int v2, .int v3, .int v4, .int v5, .int (v4 - v5), .int r4] [] σ_2 r σ1) ∧ ((r4 = 0) → ∃ (r8 : Int32) (σ_6 : Sg), Tv ρ E A mX0_doesFit (d + 303) 0 0 [.ref (A 0), .int v1, .int v2, .int (-(v4 - v5)), .int v5] σ_2 (some (.int r8)) σ_6 ∧ (((¬ r8 = 0) → Rv ρ E A mX0_sewing (d + 304) c k 102 [.ref (A 0), .int v1, .int v2, .int v3, .int v4, .int v5, .int (v4 - v5), .int r4] [] σ_6 r σ1) ∧ ((r8 = 0) → Rv ρ E A mX0_sewing (d + 304) c k 49 [.ref (A 0), .int v1, .int v2, .int v3, .int v4, .int (v5 + 1), U_, U_] [] σ_6 r σ1)))))) : Rv ρ E A mX0_sewing (d + 304) c k 49 [.ref (A 0), .int v1, .int v2, .int v3, .int v4, .int v5, U_, U_] [] σ r σ1 := by
  intro G l hp hB hR
  refine R_iload dX0_sewing_49 rfl ?_
  refine R_iload dX0_sewing_51 rfl ?_
  refine R_bipush (v := 20) dX0_sewing_53 (by decide) ?_
  refine R_mmin dX0_sewing_55 q1047 (Nat.le_of_ble_eq_true rfl) ?_
  refine R_icmp_gt 141 dX0_sewing_58 (by decide) (fun c1 => ?_) (fun c1 => ?_)
  · replace h := h.1 c1
    refine S_iinc (v := v4 + 1) (ls1 := [.ref (A 0), .int v1, .int v2, .int v3, .int (v4 + 1), .int v5, U_, U_]) dX0_sewing_141 rfl rfl (by decide) rfl rfl ?_
    refine R_goto 31 dX0_sewing_144 (by decide) ?_
    refine R_drop 5 ?_
    exact h G l hp hB hR
  · replace h := h.2 c1
    refine R_iload dX0_sewing_61 rfl ?_
    refine R_iload dX0_sewing_63 rfl ?_
    refine R_isub dX0_sewing_65 ?_
    refine S_istore (ls1 := [.ref (A 0), .int v1, .int v2, .int v3, .int v4, .int v5, .int (v4 - v5), U_]) dX0_sewing_66 (by decide) rfl rfl ?_
    refine R_aload_n dX0_sewing_68 rfl ?_
    refine R_iload_n dX0_sewing_69 rfl ?_
    refine R_iload_n dX0_sewing_70 rfl ?_
    refine R_iload dX0_sewing_71 rfl ?_
    refine R_iload dX0_sewing_73 rfl ?_
    obtain ⟨r4, σ_2, e3, h⟩ := h
    refine V_call (o := 0) [.int v1, .int v2, .int (v4 - v5), .int v5] hB hR dX0_sewing_75 cv_X0_290 rfl rfl (Nat.le_of_ble_eq_true rfl) ⟨by decide, rfl⟩ rfl e3 (Nat.zero_le _) (Nat.zero_le _) (fun hp hB => ?_)
    show RnH [] G l mX0_sewing (d + 304) (PV ρ E A r σ1) noX 78 [.ref (A 0), .int v1, .int v2, .int v3, .int v4, .int v5, .int (v4 - v5), U_] [.int r4] (ov rgM A σ_2 hp) c k
    have hR : σ_2.2.2 0 0 = .ref (ρ.1 2) := by rw [e3.1]; exact hR
    refine S_istore (ls1 := [.ref (A 0), .int v1, .int v2, .int v3, .int v4, .int v5, .int (v4 - v5), .int r4]) dX0_sewing_78 (by decide) rfl rfl ?_
    refine R_iload dX0_sewing_80 rfl ?_
    refine R_if_ne 102 dX0_sewing_82 (by decide) (fun c5 => ?_) (fun c5 => ?_)
    · replace h := h.1 c5
      exact h G l hp hB hR
    · replace h := h.2 c5
      refine R_aload_n dX0_sewing_85 rfl ?_
      refine R_iload_n dX0_sewing_86 rfl ?_
      refine R_iload_n dX0_sewing_87 rfl ?_
      refine R_iload dX0_sewing_88 rfl ?_
      refine R_ineg dX0_sewing_90 ?_
      refine R_iload dX0_sewing_91 rfl ?_
      obtain ⟨r8, σ_6, e7, h⟩ := h
      refine V_call (o := 0) [.int v1, .int v2, .int (-(v4 - v5)), .int v5] hB hR dX0_sewing_93 cv_X0_290 rfl rfl (Nat.le_of_ble_eq_true rfl) ⟨by decide, rfl⟩ rfl e7 (Nat.zero_le _) (Nat.zero_le _) (fun hp hB => ?_)
      show RnH [] G l mX0_sewing (d + 304) (PV ρ E A r σ1) noX 96 [.ref (A 0), .int v1, .int v2, .int v3, .int v4, .int v5, .int (v4 - v5), .int r4] [.int r8] (ov rgM A σ_6 hp) c k
      have hR : σ_6.2.2 0 0 = .ref (ρ.1 2) := by rw [e7.1]; exact hR
      refine R_if_ne 102 dX0_sewing_96 (by decide) (fun c9 => ?_) (fun c9 => ?_)
      · replace h := h.1 c9
        exact h G l hp hB hR
      · replace h := h.2 c9
        refine R_goto 135 dX0_sewing_99 (by decide) ?_
        refine S_iinc (v := v5 + 1) (ls1 := [.ref (A 0), .int v1, .int v2, .int v3, .int v4, .int (v5 + 1), .int (v4 - v5), .int r4]) dX0_sewing_135 rfl rfl (by decide) rfl rfl ?_
        refine R_goto 49 dX0_sewing_138 (by decide) ?_
        refine R_drop 6 ?_
        refine R_drop 7 ?_
        exact h G l hp hB hR
theorem gc_X0_sewing_102 {d : Nat} {v1 : Int32} {v2 : Int32} {v3 : Int32} {v4 : Int32} {v5 : Int32} {v6 : Int32} {v7 : Int32} {c k : Nat} {ρ : Rho} {E : Hp → Prop} {A : Nat → Nat} {σ σ1 : Sg} {r : Option Value} (h : r = some (.int (if v3 = 0 then v4 else if v3 = 1 then v5 else if v7 = 0 then -v6 else v6)) ∧ σ1 = σ) : Rv ρ E A mX0_sewing (d + 304) c k 102 [.ref (A 0), .int v1, .int v2, .int v3, .int v4, .int v5, .int v6, .int v7] [] σ r σ1 := by
  intro G l hp hB hR
  refine R_iload_n dX0_sewing_102 rfl ?_
  have J1 : RnH [] G l mX0_sewing (d + 304) (PV ρ E A r σ1) noX 134 [.ref (A 0), .int v1, .int v2, .int v3, .int v4, .int v5, .int v6, .int v7] [.int (if v3 = 0 then v4 else if v3 = 1 then v5 else if v7 = 0 then -v6 else v6)] (ov rgM A σ hp) c k := by
    exact R_iret dX0_sewing_134 rfl rfl ⟨h.1.symm, hp, hB, by rw [h.2]⟩
  refine R_if_ne 111 dX0_sewing_103 (by decide) (fun c2 => ?_) (fun c2 => ?_)
  · refine R_iload_n dX0_sewing_111 rfl ?_
    refine R_iconst (v := 1) dX0_sewing_112 (by decide) ?_
    refine R_icmp_ne 121 dX0_sewing_113 (by decide) (fun c3 => ?_) (fun c3 => ?_)
    · refine R_iload dX0_sewing_121 rfl ?_
      refine R_if_eq 131 dX0_sewing_123 (by decide) (fun c4 => ?_) (fun c4 => ?_)
      · refine R_iload dX0_sewing_131 rfl ?_
        refine R_ineg dX0_sewing_133 ?_
        simp only [if_neg c2, if_neg c3, if_pos c4] at J1
        first | exact J1 | (simp only [if_neg c2, if_neg c3, if_pos c4]; exact J1)
      · refine R_iload dX0_sewing_126 rfl ?_
        refine R_goto 134 dX0_sewing_128 (by decide) ?_
        simp only [if_neg c2, if_neg c3, if_neg c4] at J1
        first | exact J1 | (simp only [if_neg c2, if_neg c3, if_neg c4]; exact J1)
    · refine R_iload dX0_sewing_116 rfl ?_
      refine R_goto 134 dX0_sewing_118 (by decide) ?_
      simp only [if_neg c2, if_pos c3] at J1
      first | exact J1 | (simp only [if_neg c2, if_pos c3]; exact J1)
  · refine R_iload dX0_sewing_106 rfl ?_
    refine R_goto 134 dX0_sewing_108 (by decide) ?_
    simp only [if_pos c2] at J1
    first | exact J1 | (simp only [if_pos c2]; exact J1)
theorem gc_X0_turning_0 {d : Nat} {c k : Nat} {ρ : Rho} {E : Hp → Prop} {A : Nat → Nat} {σ σ1 : Sg} {r : Option Value} (h : Rv ρ E A mX0_turning (d + 304) c k 6 [.ref (A 0), .int (-1), .int (-1), .int 0, U_] [] σ r σ1) : Rv ρ E A mX0_turning (d + 304) c k 0 [.ref (A 0), U_, U_, U_, U_] [] σ r σ1 := by
  intro G l hp hB hR
  refine R_iconst (v := (-1)) dX0_turning_0 (by decide) ?_
  refine S_istore_n (ls1 := [.ref (A 0), .int (-1), U_, U_, U_]) dX0_turning_1 (by decide) rfl rfl ?_
  refine R_iconst (v := (-1)) dX0_turning_2 (by decide) ?_
  refine S_istore_n (ls1 := [.ref (A 0), .int (-1), .int (-1), U_, U_]) dX0_turning_3 (by decide) rfl rfl ?_
  refine R_iconst (v := 0) dX0_turning_4 (by decide) ?_
  refine S_istore_n (ls1 := [.ref (A 0), .int (-1), .int (-1), .int 0, U_]) dX0_turning_5 (by decide) rfl rfl ?_
  exact h G l hp hB hR
theorem gc_X0_turning_6 {d : Nat} {v1 : Int32} {v2 : Int32} {v3 : Int32} {c k : Nat} {ρ : Rho} {E : Hp → Prop} {A : Nat → Nat} {σ σ1 : Sg} {r : Option Value} (h : ∃ (r3 : Int32) (σ_1 : Sg), Tv ρ E A mX0_coats (d + 303) 0 0 [.ref (A 0)] σ (some (.int r3)) σ_1 ∧ (((r3 ≤ v3) → r = some (.int v1) ∧ σ1 = σ_1) ∧ ((¬ r3 ≤ v3) → (((s0_has (σ_1.1 1 6) v3) = 0) → ∃ (σ_6 : Sg), Tv ρ E A mX2_of (d + 303) 0 0 [.ref (A 8), .ref (A 1)] σ_1 none σ_6 ∧ (vp_in v3 6 ∧ (∃ (r11 : Int32) (σ_9 : Sg), Tv ρ E A mX2_fitted (d + 303) 0 0 [.ref (A 8), .ref (ρ.1 2)] (upA σ_6.1 14 (upd (σ_6.1 14) v3.toNatClampNeg 0), σ_6.2) (some (.int r11)) σ_9 ∧ (((v2 < (sj_bitCount r11)) → Rv ρ E A mX0_turning (d + 304) c k 6 [.ref (A 0), .int v3, .int (sj_bitCount r11), .int (v3 + 1), U_] [] σ_9 r σ1) ∧ ((¬ v2 < (sj_bitCount r11)) → Rv ρ E A mX0_turning (d + 304) c k 6 [.ref (A 0), .int v1, .int v2, .int (v3 + 1), U_] [] σ_9 r σ1))))) ∧ ((¬ (s0_has (σ_1.1 1 6) v3) = 0) → Rv ρ E A mX0_turning (d + 304) c k 6 [.ref (A 0), .int v1, .int v2, .int (v3 + 1), U_] [] σ_1 r σ1)))) : Rv ρ E A mX0_turning (d + 304) c k 6 [.ref (A 0), .int v1, .int v2, .int v3, U_] [] σ r σ1 := by
  intro G l hp hB hR
  refine R_iload_n dX0_turning_6 rfl ?_
  refine R_aload_n dX0_turning_7 rfl ?_
  obtain ⟨r3, σ_1, e2, h⟩ := h
  refine V_call (o := 0) [] hB hR dX0_turning_8 cv_X0_149 rfl rfl (Nat.le_of_ble_eq_true rfl) ⟨by decide, rfl⟩ rfl e2 (Nat.zero_le _) (Nat.zero_le _) (fun hp hB => ?_)
  show RnH [] G l mX0_turning (d + 304) (PV ρ E A r σ1) noX 11 [.ref (A 0), .int v1, .int v2, .int v3, U_] [.int r3, .int v3] (ov rgM A σ_1 hp) c k
  have hR : σ_1.2.2 0 0 = .ref (ρ.1 2) := by rw [e2.1]; exact hR
  refine R_icmp_ge 88 dX0_turning_11 (by decide) (fun c4 => ?_) (fun c4 => ?_)
  · replace h := h.1 c4
    refine R_iload_n dX0_turning_88 rfl ?_
    exact R_iret dX0_turning_89 rfl rfl ⟨h.1.symm, hp, hB, by rw [h.2]⟩
  · replace h := h.2 c4
    refine R_aload_n dX0_turning_14 rfl ?_
    refine V_geta (o := 0) (q := 1) hB.1 dX0_turning_15 fm_X0_28_1 ⟨by decide, by decide, rfl, rfl⟩ ?_
    refine V_get (o := 1) (x := σ_1.1 1 6) hB.1 dX0_turning_18 fm_X0_219_3 ⟨by decide, by decide, rfl, rfl⟩ rfl ?_
    refine R_iload_n dX0_turning_21 rfl ?_
    refine V_callS [.int (σ_1.1 1 6), .int v3] dX0_turning_22 cs_X0_239 rfl rfl (Nat.le_of_ble_eq_true rfl) (s0t_has (d + 302) (σ_1.1 1 6) v3) ?_
    show RnH [] G l mX0_turning (d + 304) (PV ρ E A r σ1) noX 25 [.ref (A 0), .int v1, .int v2, .int v3, U_] [.int (s0_has (σ_1.1 1 6) v3)] (ov rgM A σ_1 hp) c k
    refine R_if_eq 31 dX0_turning_25 (by decide) (fun c5 => ?_) (fun c5 => ?_)
    · replace h := h.1 c5
      refine R_aload_n dX0_turning_31 rfl ?_
      refine V_geta (o := 0) (q := 8) hB.1 dX0_turning_32 fm_X0_32_1 ⟨by decide, by decide, rfl, rfl⟩ ?_
      refine R_aload_n dX0_turning_35 rfl ?_
      refine V_geta (o := 0) (q := 1) hB.1 dX0_turning_36 fm_X0_28_1 ⟨by decide, by decide, rfl, rfl⟩ ?_
      obtain ⟨σ_6, e7, h⟩ := h
      refine V_call (o := 8) [.ref (A 1)] hB hR dX0_turning_39 cv_X0_118 rfl rfl (Nat.le_of_ble_eq_true rfl) ⟨by decide, rfl⟩ rfl e7 (Nat.zero_le _) (Nat.zero_le _) (fun hp hB => ?_)
      show RnH [] G l mX0_turning (d + 304) (PV ρ E A r σ1) noX 42 [.ref (A 0), .int v1, .int v2, .int v3, U_] [] (ov rgM A σ_6 hp) c k
      have hR : σ_6.2.2 0 0 = .ref (ρ.1 2) := by rw [e7.1]; exact hR
      refine R_aload_n dX0_turning_42 rfl ?_
      refine V_geta (o := 0) (q := 8) hB.1 dX0_turning_43 fm_X0_32_1 ⟨by decide, by decide, rfl, rfl⟩ ?_
      refine V_geta (o := 8) (q := 14) hB.1 dX0_turning_46 fm_X0_216_3 ⟨by decide, by decide, rfl, rfl⟩ ?_
      refine R_iload_n dX0_turning_49 rfl ?_
      refine R_iconst (v := 0) dX0_turning_50 (by decide) ?_
      have b8 := h.1
      replace h := h.2
      refine V_iast (o := 14) (σ9 := (upA σ_6.1 14 (upd (σ_6.1 14) v3.toNatClampNeg 0), σ_6.2)) hB.1 dX0_turning_51 ⟨by decide, rfl⟩ b8 rfl ?_
      refine R_aload_n dX0_turning_52 rfl ?_
      refine V_geta (o := 0) (q := 8) hB.1 dX0_turning_53 fm_X0_32_1 ⟨by decide, by decide, rfl, rfl⟩ ?_
      refine R_aload_n dX0_turning_56 rfl ?_
      refine V_getr (o := 0) (v := .ref (ρ.1 2)) hB.1 dX0_turning_57 fm_X0_19_1 ⟨by decide, by decide, rfl, rfl⟩ hR ?_
      obtain ⟨r11, σ_9, e10, h⟩ := h
      refine V_call (o := 8) [.ref (ρ.1 2)] hB hR dX0_turning_60 cv_X0_260 rfl rfl (Nat.le_of_ble_eq_true rfl) ⟨by decide, rfl⟩ rfl e10 (Nat.zero_le _) (Nat.zero_le _) (fun hp hB => ?_)
      show RnH [] G l mX0_turning (d + 304) (PV ρ E A r σ1) noX 63 [.ref (A 0), .int v1, .int v2, .int v3, U_] [.int r11] (ov rgM A σ_9 hp) c k
      have hR : σ_9.2.2 0 0 = .ref (ρ.1 2) := by rw [e10.1]; exact hR
      refine V_callS [.int r11] dX0_turning_63 cs_X0_281 rfl rfl (Nat.le_of_ble_eq_true rfl) (sjt_bitCount (d + 302) r11) ?_
      show RnH [] G l mX0_turning (d + 304) (PV ρ E A r σ1) noX 66 [.ref (A 0), .int v1, .int v2, .int v3, U_] [.int (sj_bitCount r11)] (ov rgM A σ_9 hp) c k
      refine S_istore (ls1 := [.ref (A 0), .int v1, .int v2, .int v3, .int (sj_bitCount r11)]) dX0_turning_66 (by decide) rfl rfl ?_
      refine R_iload dX0_turning_68 rfl ?_
      refine R_iload_n dX0_turning_70 rfl ?_
      refine R_icmp_gt 77 dX0_turning_71 (by decide) (fun c12 => ?_) (fun c12 => ?_)
      · replace h := h.1 c12
        refine R_iload_n dX0_turning_77 rfl ?_
        refine S_istore_n (ls1 := [.ref (A 0), .int v3, .int v2, .int v3, .int (sj_bitCount r11)]) dX0_turning_78 (by decide) rfl rfl ?_
        refine R_iload dX0_turning_79 rfl ?_
        refine S_istore_n (ls1 := [.ref (A 0), .int v3, .int (sj_bitCount r11), .int v3, .int (sj_bitCount r11)]) dX0_turning_81 (by decide) rfl rfl ?_
        refine S_iinc (v := v3 + 1) (ls1 := [.ref (A 0), .int v3, .int (sj_bitCount r11), .int (v3 + 1), .int (sj_bitCount r11)]) dX0_turning_82 rfl rfl (by decide) rfl rfl ?_
        refine R_goto 6 dX0_turning_85 (by decide) ?_
        refine R_drop 4 ?_
        exact h G l hp hB hR
      · replace h := h.2 c12
        refine R_goto 82 dX0_turning_74 (by decide) ?_
        refine S_iinc (v := v3 + 1) (ls1 := [.ref (A 0), .int v1, .int v2, .int (v3 + 1), .int (sj_bitCount r11)]) dX0_turning_82 rfl rfl (by decide) rfl rfl ?_
        refine R_goto 6 dX0_turning_85 (by decide) ?_
        refine R_drop 4 ?_
        exact h G l hp hB hR
    · replace h := h.2 c5
      refine R_goto 82 dX0_turning_28 (by decide) ?_
      refine S_iinc (v := v3 + 1) (ls1 := [.ref (A 0), .int v1, .int v2, .int (v3 + 1), U_]) dX0_turning_82 rfl rfl (by decide) rfl rfl ?_
      refine R_goto 6 dX0_turning_85 (by decide) ?_
      exact h G l hp hB hR
theorem gc_X2_goOnn_0 {d : Nat} {v2 : Int32} {c k : Nat} {ρ : Rho} {E : Hp → Prop} {A : Nat → Nat} {σ σ1 : Sg} {r : Option Value} (h : Rv ρ E A mX2_goOn (d + 304) c k 2 [.ref (A 1), .ref (ρ.1 2), .int v2, .int 0, U_] [] σ r σ1) : Rv ρ E A mX2_goOn (d + 304) c k 0 [.ref (A 1), .ref (ρ.1 2), .int v2, U_, U_] [] σ r σ1 := by
  intro G l hp hB hR
  refine R_iconst (v := 0) dX2_goOn_0 (by decide) ?_
  refine S_istore_n (ls1 := [.ref (A 1), .ref (ρ.1 2), .int v2, .int 0, U_]) dX2_goOn_1 (by decide) rfl rfl ?_
  exact h G l hp hB hR
theorem gc_X2_goOnn_2 {d : Nat} {v2 : Int32} {v3 : Int32} {c k : Nat} {ρ : Rho} {E : Hp → Prop} {A : Nat → Nat} {σ σ1 : Sg} {r : Option Value} (h : (((nI (ρ.1 0)) ≤ v3) → ∃ (r4 : Int32) (σ_2 : Sg), Tv ρ E A mX2_dressed (d + 303) 0 0 [.ref (A 1)] (upA σ.1 1 (upd (σ.1 1) 7 ((σ.1 1 7) + 1)), σ.2) (some (.int r4)) σ_2 ∧ (∃ (r7 : Int32) (σ_5 : Sg), Tv ρ E A mX2_fitted (d + 303) 0 0 [.ref (A 1), .ref (ρ.1 2)] σ_2 (some (.int r7)) σ_5 ∧ (Rv ρ E A mX2_goOn (d + 304) c k 170 [.ref (A 1), .ref (ρ.1 2), .int v2, .int (r4 &&& (r7 ^^^ (-1))), .int 0] [] σ_5 r σ1))) ∧ ((¬ (nI (ρ.1 0)) ≤ v3) → vp_in v3 6 ∧ (vp_in v3 (ρ.1 0) ∧ (((0 ≤ (σ.1 3 v3.toNatClampNeg)) → vp_in (σ.1 3 v3.toNatClampNeg) 6 ∧ (Rv ρ E A mX2_goOn (d + 304) c k 105 [.ref (A 1), .ref (ρ.1 2), .int v2, .int v3, .int (σ.1 3 v3.toNatClampNeg)] [.int (if v2 = 0 then 0 else 1), .int (σ.1 5 (σ.1 3 v3.toNatClampNeg).toNatClampNeg), .int 0, .int (σ.1 3 v3.toNatClampNeg), .ref (A 5)] (upA (upA σ.1 2 (upd (σ.1 2) v3.toNatClampNeg (sj_min 99 ((σ.1 2 v3.toNatClampNeg) + (mnI ρ v3.toNatClampNeg 3))))) 7 (upd (σ.1 7) (σ.1 3 v3.toNatClampNeg).toNatClampNeg (sj_min 99 ((σ.1 7 (σ.1 3 v3.toNatClampNeg).toNatClampNeg) + 1))), σ.2) r σ1)) ∧ ((¬ 0 ≤ (σ.1 3 v3.toNatClampNeg)) → Rv ρ E A mX2_goOn (d + 304) c k 2 [.ref (A 1), .ref (ρ.1 2), .int v2, .int (v3 + 1), U_] [] (upA σ.1 2 (upd (σ.1 2) v3.toNatClampNeg (sj_min 99 ((σ.1 2 v3.toNatClampNeg) + (mnI ρ v3.toNatClampNeg 3)))), σ.2) r σ1))))) : Rv ρ E A mX2_goOn (d + 304) c k 2 [.ref (A 1), .ref (ρ.1 2), .int v2, .int v3, U_] [] σ r σ1 := by
  intro G l hp hB hR
  refine R_iload_n dX2_goOn_2 rfl ?_
  refine R_aload_n dX2_goOn_3 rfl ?_
  refine V_rget (v := .ref (ρ.1 3)) hB dX2_goOn_4 fm_X2_46_2 rfl ?_
  refine V_size (w := 0) hB (by decide) dX2_goOn_7 cv_X2_52 (Nat.le_of_ble_eq_true rfl) ?_
  refine R_icmp_ge 144 dX2_goOn_10 (by decide) (fun c1 => ?_) (fun c1 => ?_)
  · replace h := h.1 c1
    refine R_aload_n dX2_goOn_144 rfl ?_
    refine R_dup dX2_goOn_145 rfl ?_
    refine V_get (o := 1) (x := σ.1 1 7) hB.1 dX2_goOn_146 fm_X2_40_3 ⟨by decide, by decide, rfl, rfl⟩ rfl ?_
    refine R_iconst (v := 1) dX2_goOn_149 (by decide) ?_
    refine R_iadd dX2_goOn_150 ?_
    refine V_put (o := 1) (σ9 := (upA σ.1 1 (upd (σ.1 1) 7 ((σ.1 1 7) + 1)), σ.2)) hB.1 dX2_goOn_151 fm_X2_40_3 ft_3_7 rfl rfl ⟨by decide, by decide, rfl, rfl⟩ rfl ?_
    refine R_aload_n dX2_goOn_154 rfl ?_
    obtain ⟨r4, σ_2, e3, h⟩ := h
    refine V_call (o := 1) [] hB hR dX2_goOn_155 cv_X2_97 rfl rfl (Nat.le_of_ble_eq_true rfl) ⟨by decide, rfl⟩ rfl e3 (Nat.zero_le _) (Nat.zero_le _) (fun hp hB => ?_)
    show RnH [] G l mX2_goOn (d + 304) (PV ρ E A r σ1) noX 158 [.ref (A 1), .ref (ρ.1 2), .int v2, .int v3, U_] [.int r4] (ov rgM A σ_2 hp) c k
    have hR : σ_2.2.2 0 0 = .ref (ρ.1 2) := by rw [e3.1]; exact hR
    refine R_aload_n dX2_goOn_158 rfl ?_
    refine R_aload_n dX2_goOn_159 rfl ?_
    obtain ⟨r7, σ_5, e6, h⟩ := h
    refine V_call (o := 1) [.ref (ρ.1 2)] hB hR dX2_goOn_160 cv_X2_100 rfl rfl (Nat.le_of_ble_eq_true rfl) ⟨by decide, rfl⟩ rfl e6 (Nat.zero_le _) (Nat.zero_le _) (fun hp hB => ?_)
    show RnH [] G l mX2_goOn (d + 304) (PV ρ E A r σ1) noX 163 [.ref (A 1), .ref (ρ.1 2), .int v2, .int v3, U_] [.int r7, .int r4] (ov rgM A σ_5 hp) c k
    have hR : σ_5.2.2 0 0 = .ref (ρ.1 2) := by rw [e6.1]; exact hR
    refine R_iconst (v := (-1)) dX2_goOn_163 (by decide) ?_
    refine R_ixor dX2_goOn_164 ?_
    refine R_iand dX2_goOn_165 ?_
    refine S_istore_n (ls1 := [.ref (A 1), .ref (ρ.1 2), .int v2, .int (r4 &&& (r7 ^^^ (-1))), U_]) dX2_goOn_166 (by decide) rfl rfl ?_
    refine R_iconst (v := 0) dX2_goOn_167 (by decide) ?_
    refine S_istore (ls1 := [.ref (A 1), .ref (ρ.1 2), .int v2, .int (r4 &&& (r7 ^^^ (-1))), .int 0]) dX2_goOn_168 (by decide) rfl rfl ?_
    exact h G l hp hB hR
  · replace h := h.2 c1
    refine R_aload_n dX2_goOn_13 rfl ?_
    refine V_geta (o := 1) (q := 2) hB.1 dX2_goOn_14 fm_X2_9_3 ⟨by decide, by decide, rfl, rfl⟩ ?_
    refine R_iload_n dX2_goOn_17 rfl ?_
    refine R_bipush (v := 99) dX2_goOn_18 (by decide) ?_
    refine R_aload_n dX2_goOn_20 rfl ?_
    refine V_geta (o := 1) (q := 2) hB.1 dX2_goOn_21 fm_X2_9_3 ⟨by decide, by decide, rfl, rfl⟩ ?_
    refine R_iload_n dX2_goOn_24 rfl ?_
    have b8 := h.1
    replace h := h.2
    refine V_iald (o := 2) (x := σ.1 2 v3.toNatClampNeg) hB.1 dX2_goOn_25 ⟨by decide, rfl⟩ b8 rfl ?_
    refine R_aload_n dX2_goOn_26 rfl ?_
    refine V_rget (v := .ref (ρ.1 3)) hB dX2_goOn_27 fm_X2_46_2 rfl ?_
    refine R_iload_n dX2_goOn_30 rfl ?_
    have b9 := h.1
    replace h := h.2
    refine V_lget (w := 0) (i := v3) hB (by decide) b9 dX2_goOn_31 cv_X2_58 (Nat.le_of_ble_eq_true rfl) ?_
    refine V_mcast (i := v3) hB b9 dX2_goOn_34 q445 ?_
    refine V_mget (i := v3) (x := mnI ρ v3.toNatClampNeg 3) hB b9 dX2_goOn_37 fm_X2_85_9 (by decide) rfl ?_
    refine R_iadd dX2_goOn_40 ?_
    refine R_mmin dX2_goOn_41 q1100 (Nat.le_of_ble_eq_true rfl) ?_
    refine V_iast (o := 2) (σ9 := (upA σ.1 2 (upd (σ.1 2) v3.toNatClampNeg (sj_min 99 ((σ.1 2 v3.toNatClampNeg) + (mnI ρ v3.toNatClampNeg 3)))), σ.2)) hB.1 dX2_goOn_44 ⟨by decide, rfl⟩ b8 rfl ?_
    refine R_aload_n dX2_goOn_45 rfl ?_
    refine V_geta (o := 1) (q := 3) hB.1 dX2_goOn_46 fm_X2_15_3 ⟨by decide, by decide, rfl, rfl⟩ ?_
    refine R_iload_n dX2_goOn_49 rfl ?_
    refine V_iald (o := 3) (x := σ.1 3 v3.toNatClampNeg) hB.1 dX2_goOn_50 ⟨by decide, rfl⟩ b8 rfl ?_
    refine S_istore (ls1 := [.ref (A 1), .ref (ρ.1 2), .int v2, .int v3, .int (σ.1 3 v3.toNatClampNeg)]) dX2_goOn_51 (by decide) rfl rfl ?_
    refine R_iload dX2_goOn_53 rfl ?_
    refine R_if_ge 61 dX2_goOn_55 (by decide) (fun c10 => ?_) (fun c10 => ?_)
    · replace h := h.1 c10
      refine R_aload_n dX2_goOn_61 rfl ?_
      refine V_geta (o := 1) (q := 7) hB.1 dX2_goOn_62 fm_X2_27_3 ⟨by decide, by decide, rfl, rfl⟩ ?_
      refine R_iload dX2_goOn_65 rfl ?_
      refine R_bipush (v := 99) dX2_goOn_67 (by decide) ?_
      refine R_aload_n dX2_goOn_69 rfl ?_
      refine V_geta (o := 1) (q := 7) hB.1 dX2_goOn_70 fm_X2_27_3 ⟨by decide, by decide, rfl, rfl⟩ ?_
      refine R_iload dX2_goOn_73 rfl ?_
      have b11 := h.1
      replace h := h.2
      refine V_iald (o := 7) (x := σ.1 7 (σ.1 3 v3.toNatClampNeg).toNatClampNeg) hB.1 dX2_goOn_75 ⟨by decide, rfl⟩ b11 rfl ?_
      refine R_iconst (v := 1) dX2_goOn_76 (by decide) ?_
      refine R_iadd dX2_goOn_77 ?_
      refine R_mmin dX2_goOn_78 q1100 (Nat.le_of_ble_eq_true rfl) ?_
      refine V_iast (o := 7) (σ9 := (upA (upA σ.1 2 (upd (σ.1 2) v3.toNatClampNeg (sj_min 99 ((σ.1 2 v3.toNatClampNeg) + (mnI ρ v3.toNatClampNeg 3))))) 7 (upd (σ.1 7) (σ.1 3 v3.toNatClampNeg).toNatClampNeg (sj_min 99 ((σ.1 7 (σ.1 3 v3.toNatClampNeg).toNatClampNeg) + 1))), σ.2)) hB.1 dX2_goOn_81 ⟨by decide, rfl⟩ b11 rfl ?_
      refine R_aload_n dX2_goOn_82 rfl ?_
      refine V_geta (o := 1) (q := 5) hB.1 dX2_goOn_83 fm_X2_21_3 ⟨by decide, by decide, rfl, rfl⟩ ?_
      refine R_iload dX2_goOn_86 rfl ?_
      refine R_iconst (v := 0) dX2_goOn_88 (by decide) ?_
      refine R_aload_n dX2_goOn_89 rfl ?_
      refine V_geta (o := 1) (q := 5) hB.1 dX2_goOn_90 fm_X2_21_3 ⟨by decide, by decide, rfl, rfl⟩ ?_
      refine R_iload dX2_goOn_93 rfl ?_
      refine V_iald (o := 5) (x := σ.1 5 (σ.1 3 v3.toNatClampNeg).toNatClampNeg) hB.1 dX2_goOn_95 ⟨by decide, rfl⟩ b11 rfl ?_
      refine R_iload_n dX2_goOn_96 rfl ?_
      have J12 : RnH [] G l mX2_goOn (d + 304) (PV ρ E A r σ1) noX 105 [.ref (A 1), .ref (ρ.1 2), .int v2, .int v3, .int (σ.1 3 v3.toNatClampNeg)] [.int (if v2 = 0 then 0 else 1), .int (σ.1 5 (σ.1 3 v3.toNatClampNeg).toNatClampNeg), .int 0, .int (σ.1 3 v3.toNatClampNeg), .ref (A 5)] (ov rgM A (upA (upA σ.1 2 (upd (σ.1 2) v3.toNatClampNeg (sj_min 99 ((σ.1 2 v3.toNatClampNeg) + (mnI ρ v3.toNatClampNeg 3))))) 7 (upd (σ.1 7) (σ.1 3 v3.toNatClampNeg).toNatClampNeg (sj_min 99 ((σ.1 7 (σ.1 3 v3.toNatClampNeg).toNatClampNeg) + 1))), σ.2) hp) c k := by
        exact h G l hp hB hR
      refine R_if_eq 104 dX2_goOn_97 (by decide) (fun c13 => ?_) (fun c13 => ?_)
      · refine R_iconst (v := 0) dX2_goOn_104 (by decide) ?_
        simp only [if_pos c13] at J12
        first | exact J12 | (simp only [if_pos c13]; exact J12)
      · refine R_iconst (v := 1) dX2_goOn_100 (by decide) ?_
        refine R_goto 105 dX2_goOn_101 (by decide) ?_
        simp only [if_neg c13] at J12
        first | exact J12 | (simp only [if_neg c13]; exact J12)
    · replace h := h.2 c10
      refine R_goto 138 dX2_goOn_58 (by decide) ?_
      refine S_iinc (v := v3 + 1) (ls1 := [.ref (A 1), .ref (ρ.1 2), .int v2, .int (v3 + 1), .int (σ.1 3 v3.toNatClampNeg)]) dX2_goOn_138 rfl rfl (by decide) rfl rfl ?_
      refine R_goto 2 dX2_goOn_141 (by decide) ?_
      refine R_drop 4 ?_
      exact h G l hp hB hR
theorem gc_X2_goOnn_105_5 {d : Nat} {v2 : Int32} {v3 : Int32} {v4 : Int32} {t1 : Int32} {t2 : Int32} {t3 : Int32} {t4 : Int32} {c k : Nat} {ρ : Rho} {E : Hp → Prop} {A : Nat → Nat} {σ σ1 : Sg} {r : Option Value} (h : vp_in t1 6 ∧ (vp_in v4 6 ∧ (Rv ρ E A mX2_goOn (d + 304) c k 2 [.ref (A 1), .ref (ρ.1 2), .int v2, .int (v3 + 1), U_] [] (upA (upA σ.1 5 (upd (σ.1 5) t1.toNatClampNeg (sj_max t2 (t3 - t4)))) 4 (upd (σ.1 4) v4.toNatClampNeg (sj_max 0 ((σ.1 4 v4.toNatClampNeg) - (if v2 = 0 then 0 else 1)))), σ.2) r σ1))) : Rv ρ E A mX2_goOn (d + 304) c k 105 [.ref (A 1), .ref (ρ.1 2), .int v2, .int v3, .int v4] [.int t4, .int t3, .int t2, .int t1, .ref (A 5)] σ r σ1 := by
  intro G l hp hB hR
  refine R_isub dX2_goOn_105 ?_
  refine R_mmax dX2_goOn_106 q1101 (Nat.le_of_ble_eq_true rfl) ?_
  have b1 := h.1
  replace h := h.2
  refine V_iast (o := 5) (σ9 := (upA σ.1 5 (upd (σ.1 5) t1.toNatClampNeg (sj_max t2 (t3 - t4))), σ.2)) hB.1 dX2_goOn_109 ⟨by decide, rfl⟩ b1 rfl ?_
  refine R_aload_n dX2_goOn_110 rfl ?_
  refine V_geta (o := 1) (q := 4) hB.1 dX2_goOn_111 fm_X2_18_3 ⟨by decide, by decide, rfl, rfl⟩ ?_
  refine R_iload dX2_goOn_114 rfl ?_
  refine R_iconst (v := 0) dX2_goOn_116 (by decide) ?_
  refine R_aload_n dX2_goOn_117 rfl ?_
  refine V_geta (o := 1) (q := 4) hB.1 dX2_goOn_118 fm_X2_18_3 ⟨by decide, by decide, rfl, rfl⟩ ?_
  refine R_iload dX2_goOn_121 rfl ?_
  have b2 := h.1
  replace h := h.2
  refine V_iald (o := 4) (x := σ.1 4 v4.toNatClampNeg) hB.1 dX2_goOn_123 ⟨by decide, rfl⟩ b2 rfl ?_
  refine R_iload_n dX2_goOn_124 rfl ?_
  have J3 : RnH [] G l mX2_goOn (d + 304) (PV ρ E A r σ1) noX 133 [.ref (A 1), .ref (ρ.1 2), .int v2, .int v3, .int v4] [.int (if v2 = 0 then 0 else 1), .int (σ.1 4 v4.toNatClampNeg), .int 0, .int v4, .ref (A 4)] (ov rgM A (upA σ.1 5 (upd (σ.1 5) t1.toNatClampNeg (sj_max t2 (t3 - t4))), σ.2) hp) c k := by
    refine R_isub dX2_goOn_133 ?_
    refine R_mmax dX2_goOn_134 q1101 (Nat.le_of_ble_eq_true rfl) ?_
    refine V_iast (o := 4) (σ9 := (upA (upA σ.1 5 (upd (σ.1 5) t1.toNatClampNeg (sj_max t2 (t3 - t4)))) 4 (upd (σ.1 4) v4.toNatClampNeg (sj_max 0 ((σ.1 4 v4.toNatClampNeg) - (if v2 = 0 then 0 else 1)))), σ.2)) hB.1 dX2_goOn_137 ⟨by decide, rfl⟩ b2 rfl ?_
    refine S_iinc (v := v3 + 1) (ls1 := [.ref (A 1), .ref (ρ.1 2), .int v2, .int (v3 + 1), .int v4]) dX2_goOn_138 rfl rfl (by decide) rfl rfl ?_
    refine R_goto 2 dX2_goOn_141 (by decide) ?_
    refine R_drop 4 ?_
    exact h G l hp hB hR
  refine R_if_eq 132 dX2_goOn_125 (by decide) (fun c4 => ?_) (fun c4 => ?_)
  · refine R_iconst (v := 0) dX2_goOn_132 (by decide) ?_
    simp only [if_pos c4] at J3
    first | exact J3 | (simp only [if_pos c4]; exact J3)
  · refine R_iconst (v := 1) dX2_goOn_128 (by decide) ?_
    refine R_goto 133 dX2_goOn_129 (by decide) ?_
    simp only [if_neg c4] at J3
    first | exact J3 | (simp only [if_neg c4]; exact J3)
theorem gc_X2_goOnn_170 {d : Nat} {v2 : Int32} {v3 : Int32} {v4 : Int32} {c k : Nat} {ρ : Rho} {E : Hp → Prop} {A : Nat → Nat} {σ σ1 : Sg} {r : Option Value} (h : (((nI (ρ.1 0)) ≤ v4) → r = some (.int v3) ∧ σ1 = σ) ∧ ((¬ (nI (ρ.1 0)) ≤ v4) → ((¬ ((v3 >>> (v4 &&& 31)) &&& 1) = 1) → Rv ρ E A mX2_goOn (d + 304) c k 170 [.ref (A 1), .ref (ρ.1 2), .int v2, .int v3, .int (v4 + 1)] [] σ r σ1) ∧ ((((v3 >>> (v4 &&& 31)) &&& 1) = 1) → vp_in v4 6 ∧ (Rv ρ E A mX2_goOn (d + 304) c k 170 [.ref (A 1), .ref (ρ.1 2), .int v2, .int v3, .int (v4 + 1)] [] (upA σ.1 3 (upd (σ.1 3) v4.toNatClampNeg (-1)), σ.2) r σ1)))) : Rv ρ E A mX2_goOn (d + 304) c k 170 [.ref (A 1), .ref (ρ.1 2), .int v2, .int v3, .int v4] [] σ r σ1 := by
  intro G l hp hB hR
  refine R_iload dX2_goOn_170 rfl ?_
  refine R_aload_n dX2_goOn_172 rfl ?_
  refine V_rget (v := .ref (ρ.1 3)) hB dX2_goOn_173 fm_X2_46_2 rfl ?_
  refine V_size (w := 0) hB (by decide) dX2_goOn_176 cv_X2_52 (Nat.le_of_ble_eq_true rfl) ?_
  refine R_icmp_ge 206 dX2_goOn_179 (by decide) (fun c1 => ?_) (fun c1 => ?_)
  · replace h := h.1 c1
    refine R_iload_n dX2_goOn_206 rfl ?_
    exact R_iret dX2_goOn_207 rfl rfl ⟨h.1.symm, hp, hB, by rw [h.2]⟩
  · replace h := h.2 c1
    refine R_iload_n dX2_goOn_182 rfl ?_
    refine R_iload dX2_goOn_183 rfl ?_
    refine R_ishr dX2_goOn_185 ?_
    refine R_iconst (v := 1) dX2_goOn_186 (by decide) ?_
    refine R_iand dX2_goOn_187 ?_
    refine R_iconst (v := 1) dX2_goOn_188 (by decide) ?_
    refine R_icmp_ne 200 dX2_goOn_189 (by decide) (fun c2 => ?_) (fun c2 => ?_)
    · replace h := h.1 c2
      refine S_iinc (v := v4 + 1) (ls1 := [.ref (A 1), .ref (ρ.1 2), .int v2, .int v3, .int (v4 + 1)]) dX2_goOn_200 rfl rfl (by decide) rfl rfl ?_
      refine R_goto 170 dX2_goOn_203 (by decide) ?_
      exact h G l hp hB hR
    · replace h := h.2 c2
      refine R_aload_n dX2_goOn_192 rfl ?_
      refine V_geta (o := 1) (q := 3) hB.1 dX2_goOn_193 fm_X2_15_3 ⟨by decide, by decide, rfl, rfl⟩ ?_
      refine R_iload dX2_goOn_196 rfl ?_
      refine R_iconst (v := (-1)) dX2_goOn_198 (by decide) ?_
      have b3 := h.1
      replace h := h.2
      refine V_iast (o := 3) (σ9 := (upA σ.1 3 (upd (σ.1 3) v4.toNatClampNeg (-1)), σ.2)) hB.1 dX2_goOn_199 ⟨by decide, rfl⟩ b3 rfl ?_
      refine S_iinc (v := v4 + 1) (ls1 := [.ref (A 1), .ref (ρ.1 2), .int v2, .int v3, .int (v4 + 1)]) dX2_goOn_200 rfl rfl (by decide) rfl rfl ?_
      refine R_goto 170 dX2_goOn_203 (by decide) ?_
      exact h G l hp hB hR
theorem gc_X2_goOnt_0 {d : Nat} {v2 : Int32} {c k : Nat} {ρ : Rho} {E : Hp → Prop} {A : Nat → Nat} {σ σ1 : Sg} {r : Option Value} (h : Rv ρ E A mX2_goOn (d + 304) c k 2 [.ref (A 8), .ref (ρ.1 2), .int v2, .int 0, U_] [] σ r σ1) : Rv ρ E A mX2_goOn (d + 304) c k 0 [.ref (A 8), .ref (ρ.1 2), .int v2, U_, U_] [] σ r σ1 := by
  intro G l hp hB hR
  refine R_iconst (v := 0) dX2_goOn_0 (by decide) ?_
  refine S_istore_n (ls1 := [.ref (A 8), .ref (ρ.1 2), .int v2, .int 0, U_]) dX2_goOn_1 (by decide) rfl rfl ?_
  exact h G l hp hB hR
theorem gc_X2_goOnt_2 {d : Nat} {v2 : Int32} {v3 : Int32} {c k : Nat} {ρ : Rho} {E : Hp → Prop} {A : Nat → Nat} {σ σ1 : Sg} {r : Option Value} (h : (((nI (ρ.1 0)) ≤ v3) → ∃ (r4 : Int32) (σ_2 : Sg), Tv ρ E A mX2_dressed (d + 303) 0 0 [.ref (A 8)] (upA σ.1 8 (upd (σ.1 8) 7 ((σ.1 8 7) + 1)), σ.2) (some (.int r4)) σ_2 ∧ (∃ (r7 : Int32) (σ_5 : Sg), Tv ρ E A mX2_fitted (d + 303) 0 0 [.ref (A 8), .ref (ρ.1 2)] σ_2 (some (.int r7)) σ_5 ∧ (Rv ρ E A mX2_goOn (d + 304) c k 170 [.ref (A 8), .ref (ρ.1 2), .int v2, .int (r4 &&& (r7 ^^^ (-1))), .int 0] [] σ_5 r σ1))) ∧ ((¬ (nI (ρ.1 0)) ≤ v3) → vp_in v3 6 ∧ (vp_in v3 (ρ.1 0) ∧ (((0 ≤ (σ.1 10 v3.toNatClampNeg)) → vp_in (σ.1 10 v3.toNatClampNeg) 6 ∧ (Rv ρ E A mX2_goOn (d + 304) c k 105 [.ref (A 8), .ref (ρ.1 2), .int v2, .int v3, .int (σ.1 10 v3.toNatClampNeg)] [.int (if v2 = 0 then 0 else 1), .int (σ.1 12 (σ.1 10 v3.toNatClampNeg).toNatClampNeg), .int 0, .int (σ.1 10 v3.toNatClampNeg), .ref (A 12)] (upA (upA σ.1 9 (upd (σ.1 9) v3.toNatClampNeg (sj_min 99 ((σ.1 9 v3.toNatClampNeg) + (mnI ρ v3.toNatClampNeg 3))))) 14 (upd (σ.1 14) (σ.1 10 v3.toNatClampNeg).toNatClampNeg (sj_min 99 ((σ.1 14 (σ.1 10 v3.toNatClampNeg).toNatClampNeg) + 1))), σ.2) r σ1)) ∧ ((¬ 0 ≤ (σ.1 10 v3.toNatClampNeg)) → Rv ρ E A mX2_goOn (d + 304) c k 2 [.ref (A 8), .ref (ρ.1 2), .int v2, .int (v3 + 1), U_] [] (upA σ.1 9 (upd (σ.1 9) v3.toNatClampNeg (sj_min 99 ((σ.1 9 v3.toNatClampNeg) + (mnI ρ v3.toNatClampNeg 3)))), σ.2) r σ1))))) : Rv ρ E A mX2_goOn (d + 304) c k 2 [.ref (A 8), .ref (ρ.1 2), .int v2, .int v3, U_] [] σ r σ1 := by
  intro G l hp hB hR
  refine R_iload_n dX2_goOn_2 rfl ?_
  refine R_aload_n dX2_goOn_3 rfl ?_
  refine V_rget (v := .ref (ρ.1 3)) hB dX2_goOn_4 fm_X2_46_2 rfl ?_
  refine V_size (w := 0) hB (by decide) dX2_goOn_7 cv_X2_52 (Nat.le_of_ble_eq_true rfl) ?_
  refine R_icmp_ge 144 dX2_goOn_10 (by decide) (fun c1 => ?_) (fun c1 => ?_)
  · replace h := h.1 c1
    refine R_aload_n dX2_goOn_144 rfl ?_
    refine R_dup dX2_goOn_145 rfl ?_
    refine V_get (o := 8) (x := σ.1 8 7) hB.1 dX2_goOn_146 fm_X2_40_3 ⟨by decide, by decide, rfl, rfl⟩ rfl ?_
    refine R_iconst (v := 1) dX2_goOn_149 (by decide) ?_
    refine R_iadd dX2_goOn_150 ?_
    refine V_put (o := 8) (σ9 := (upA σ.1 8 (upd (σ.1 8) 7 ((σ.1 8 7) + 1)), σ.2)) hB.1 dX2_goOn_151 fm_X2_40_3 ft_3_7 rfl rfl ⟨by decide, by decide, rfl, rfl⟩ rfl ?_
    refine R_aload_n dX2_goOn_154 rfl ?_
    obtain ⟨r4, σ_2, e3, h⟩ := h
    refine V_call (o := 8) [] hB hR dX2_goOn_155 cv_X2_97 rfl rfl (Nat.le_of_ble_eq_true rfl) ⟨by decide, rfl⟩ rfl e3 (Nat.zero_le _) (Nat.zero_le _) (fun hp hB => ?_)
    show RnH [] G l mX2_goOn (d + 304) (PV ρ E A r σ1) noX 158 [.ref (A 8), .ref (ρ.1 2), .int v2, .int v3, U_] [.int r4] (ov rgM A σ_2 hp) c k
    have hR : σ_2.2.2 0 0 = .ref (ρ.1 2) := by rw [e3.1]; exact hR
    refine R_aload_n dX2_goOn_158 rfl ?_
    refine R_aload_n dX2_goOn_159 rfl ?_
    obtain ⟨r7, σ_5, e6, h⟩ := h
    refine V_call (o := 8) [.ref (ρ.1 2)] hB hR dX2_goOn_160 cv_X2_100 rfl rfl (Nat.le_of_ble_eq_true rfl) ⟨by decide, rfl⟩ rfl e6 (Nat.zero_le _) (Nat.zero_le _) (fun hp hB => ?_)
    show RnH [] G l mX2_goOn (d + 304) (PV ρ E A r σ1) noX 163 [.ref (A 8), .ref (ρ.1 2), .int v2, .int v3, U_] [.int r7, .int r4] (ov rgM A σ_5 hp) c k
    have hR : σ_5.2.2 0 0 = .ref (ρ.1 2) := by rw [e6.1]; exact hR
    refine R_iconst (v := (-1)) dX2_goOn_163 (by decide) ?_
    refine R_ixor dX2_goOn_164 ?_
    refine R_iand dX2_goOn_165 ?_
    refine S_istore_n (ls1 := [.ref (A 8), .ref (ρ.1 2), .int v2, .int (r4 &&& (r7 ^^^ (-1))), U_]) dX2_goOn_166 (by decide) rfl rfl ?_
    refine R_iconst (v := 0) dX2_goOn_167 (by decide) ?_
    refine S_istore (ls1 := [.ref (A 8), .ref (ρ.1 2), .int v2, .int (r4 &&& (r7 ^^^ (-1))), .int 0]) dX2_goOn_168 (by decide) rfl rfl ?_
    exact h G l hp hB hR
  · replace h := h.2 c1
    refine R_aload_n dX2_goOn_13 rfl ?_
    refine V_geta (o := 8) (q := 9) hB.1 dX2_goOn_14 fm_X2_9_3 ⟨by decide, by decide, rfl, rfl⟩ ?_
    refine R_iload_n dX2_goOn_17 rfl ?_
    refine R_bipush (v := 99) dX2_goOn_18 (by decide) ?_
    refine R_aload_n dX2_goOn_20 rfl ?_
    refine V_geta (o := 8) (q := 9) hB.1 dX2_goOn_21 fm_X2_9_3 ⟨by decide, by decide, rfl, rfl⟩ ?_
    refine R_iload_n dX2_goOn_24 rfl ?_
    have b8 := h.1
    replace h := h.2
    refine V_iald (o := 9) (x := σ.1 9 v3.toNatClampNeg) hB.1 dX2_goOn_25 ⟨by decide, rfl⟩ b8 rfl ?_
    refine R_aload_n dX2_goOn_26 rfl ?_
    refine V_rget (v := .ref (ρ.1 3)) hB dX2_goOn_27 fm_X2_46_2 rfl ?_
    refine R_iload_n dX2_goOn_30 rfl ?_
    have b9 := h.1
    replace h := h.2
    refine V_lget (w := 0) (i := v3) hB (by decide) b9 dX2_goOn_31 cv_X2_58 (Nat.le_of_ble_eq_true rfl) ?_
    refine V_mcast (i := v3) hB b9 dX2_goOn_34 q445 ?_
    refine V_mget (i := v3) (x := mnI ρ v3.toNatClampNeg 3) hB b9 dX2_goOn_37 fm_X2_85_9 (by decide) rfl ?_
    refine R_iadd dX2_goOn_40 ?_
    refine R_mmin dX2_goOn_41 q1100 (Nat.le_of_ble_eq_true rfl) ?_
    refine V_iast (o := 9) (σ9 := (upA σ.1 9 (upd (σ.1 9) v3.toNatClampNeg (sj_min 99 ((σ.1 9 v3.toNatClampNeg) + (mnI ρ v3.toNatClampNeg 3)))), σ.2)) hB.1 dX2_goOn_44 ⟨by decide, rfl⟩ b8 rfl ?_
    refine R_aload_n dX2_goOn_45 rfl ?_
    refine V_geta (o := 8) (q := 10) hB.1 dX2_goOn_46 fm_X2_15_3 ⟨by decide, by decide, rfl, rfl⟩ ?_
    refine R_iload_n dX2_goOn_49 rfl ?_
    refine V_iald (o := 10) (x := σ.1 10 v3.toNatClampNeg) hB.1 dX2_goOn_50 ⟨by decide, rfl⟩ b8 rfl ?_
    refine S_istore (ls1 := [.ref (A 8), .ref (ρ.1 2), .int v2, .int v3, .int (σ.1 10 v3.toNatClampNeg)]) dX2_goOn_51 (by decide) rfl rfl ?_
    refine R_iload dX2_goOn_53 rfl ?_
    refine R_if_ge 61 dX2_goOn_55 (by decide) (fun c10 => ?_) (fun c10 => ?_)
    · replace h := h.1 c10
      refine R_aload_n dX2_goOn_61 rfl ?_
      refine V_geta (o := 8) (q := 14) hB.1 dX2_goOn_62 fm_X2_27_3 ⟨by decide, by decide, rfl, rfl⟩ ?_
      refine R_iload dX2_goOn_65 rfl ?_
      refine R_bipush (v := 99) dX2_goOn_67 (by decide) ?_
      refine R_aload_n dX2_goOn_69 rfl ?_
      refine V_geta (o := 8) (q := 14) hB.1 dX2_goOn_70 fm_X2_27_3 ⟨by decide, by decide, rfl, rfl⟩ ?_
      refine R_iload dX2_goOn_73 rfl ?_
      have b11 := h.1
      replace h := h.2
      refine V_iald (o := 14) (x := σ.1 14 (σ.1 10 v3.toNatClampNeg).toNatClampNeg) hB.1 dX2_goOn_75 ⟨by decide, rfl⟩ b11 rfl ?_
      refine R_iconst (v := 1) dX2_goOn_76 (by decide) ?_
      refine R_iadd dX2_goOn_77 ?_
      refine R_mmin dX2_goOn_78 q1100 (Nat.le_of_ble_eq_true rfl) ?_
      refine V_iast (o := 14) (σ9 := (upA (upA σ.1 9 (upd (σ.1 9) v3.toNatClampNeg (sj_min 99 ((σ.1 9 v3.toNatClampNeg) + (mnI ρ v3.toNatClampNeg 3))))) 14 (upd (σ.1 14) (σ.1 10 v3.toNatClampNeg).toNatClampNeg (sj_min 99 ((σ.1 14 (σ.1 10 v3.toNatClampNeg).toNatClampNeg) + 1))), σ.2)) hB.1 dX2_goOn_81 ⟨by decide, rfl⟩ b11 rfl ?_
      refine R_aload_n dX2_goOn_82 rfl ?_
      refine V_geta (o := 8) (q := 12) hB.1 dX2_goOn_83 fm_X2_21_3 ⟨by decide, by decide, rfl, rfl⟩ ?_
      refine R_iload dX2_goOn_86 rfl ?_
      refine R_iconst (v := 0) dX2_goOn_88 (by decide) ?_
      refine R_aload_n dX2_goOn_89 rfl ?_
      refine V_geta (o := 8) (q := 12) hB.1 dX2_goOn_90 fm_X2_21_3 ⟨by decide, by decide, rfl, rfl⟩ ?_
      refine R_iload dX2_goOn_93 rfl ?_
      refine V_iald (o := 12) (x := σ.1 12 (σ.1 10 v3.toNatClampNeg).toNatClampNeg) hB.1 dX2_goOn_95 ⟨by decide, rfl⟩ b11 rfl ?_
      refine R_iload_n dX2_goOn_96 rfl ?_
      have J12 : RnH [] G l mX2_goOn (d + 304) (PV ρ E A r σ1) noX 105 [.ref (A 8), .ref (ρ.1 2), .int v2, .int v3, .int (σ.1 10 v3.toNatClampNeg)] [.int (if v2 = 0 then 0 else 1), .int (σ.1 12 (σ.1 10 v3.toNatClampNeg).toNatClampNeg), .int 0, .int (σ.1 10 v3.toNatClampNeg), .ref (A 12)] (ov rgM A (upA (upA σ.1 9 (upd (σ.1 9) v3.toNatClampNeg (sj_min 99 ((σ.1 9 v3.toNatClampNeg) + (mnI ρ v3.toNatClampNeg 3))))) 14 (upd (σ.1 14) (σ.1 10 v3.toNatClampNeg).toNatClampNeg (sj_min 99 ((σ.1 14 (σ.1 10 v3.toNatClampNeg).toNatClampNeg) + 1))), σ.2) hp) c k := by
        exact h G l hp hB hR
      refine R_if_eq 104 dX2_goOn_97 (by decide) (fun c13 => ?_) (fun c13 => ?_)
      · refine R_iconst (v := 0) dX2_goOn_104 (by decide) ?_
        simp only [if_pos c13] at J12
        first | exact J12 | (simp only [if_pos c13]; exact J12)
      · refine R_iconst (v := 1) dX2_goOn_100 (by decide) ?_
        refine R_goto 105 dX2_goOn_101 (by decide) ?_
        simp only [if_neg c13] at J12
        first | exact J12 | (simp only [if_neg c13]; exact J12)
    · replace h := h.2 c10
      refine R_goto 138 dX2_goOn_58 (by decide) ?_
      refine S_iinc (v := v3 + 1) (ls1 := [.ref (A 8), .ref (ρ.1 2), .int v2, .int (v3 + 1), .int (σ.1 10 v3.toNatClampNeg)]) dX2_goOn_138 rfl rfl (by decide) rfl rfl ?_
      refine R_goto 2 dX2_goOn_141 (by decide) ?_
      refine R_drop 4 ?_
      exact h G l hp hB hR
theorem gc_X2_goOnt_105_5 {d : Nat} {v2 : Int32} {v3 : Int32} {v4 : Int32} {t1 : Int32} {t2 : Int32} {t3 : Int32} {t4 : Int32} {c k : Nat} {ρ : Rho} {E : Hp → Prop} {A : Nat → Nat} {σ σ1 : Sg} {r : Option Value} (h : vp_in t1 6 ∧ (vp_in v4 6 ∧ (Rv ρ E A mX2_goOn (d + 304) c k 2 [.ref (A 8), .ref (ρ.1 2), .int v2, .int (v3 + 1), U_] [] (upA (upA σ.1 12 (upd (σ.1 12) t1.toNatClampNeg (sj_max t2 (t3 - t4)))) 11 (upd (σ.1 11) v4.toNatClampNeg (sj_max 0 ((σ.1 11 v4.toNatClampNeg) - (if v2 = 0 then 0 else 1)))), σ.2) r σ1))) : Rv ρ E A mX2_goOn (d + 304) c k 105 [.ref (A 8), .ref (ρ.1 2), .int v2, .int v3, .int v4] [.int t4, .int t3, .int t2, .int t1, .ref (A 12)] σ r σ1 := by
  intro G l hp hB hR
  refine R_isub dX2_goOn_105 ?_
  refine R_mmax dX2_goOn_106 q1101 (Nat.le_of_ble_eq_true rfl) ?_
  have b1 := h.1
  replace h := h.2
  refine V_iast (o := 12) (σ9 := (upA σ.1 12 (upd (σ.1 12) t1.toNatClampNeg (sj_max t2 (t3 - t4))), σ.2)) hB.1 dX2_goOn_109 ⟨by decide, rfl⟩ b1 rfl ?_
  refine R_aload_n dX2_goOn_110 rfl ?_
  refine V_geta (o := 8) (q := 11) hB.1 dX2_goOn_111 fm_X2_18_3 ⟨by decide, by decide, rfl, rfl⟩ ?_
  refine R_iload dX2_goOn_114 rfl ?_
  refine R_iconst (v := 0) dX2_goOn_116 (by decide) ?_
  refine R_aload_n dX2_goOn_117 rfl ?_
  refine V_geta (o := 8) (q := 11) hB.1 dX2_goOn_118 fm_X2_18_3 ⟨by decide, by decide, rfl, rfl⟩ ?_
  refine R_iload dX2_goOn_121 rfl ?_
  have b2 := h.1
  replace h := h.2
  refine V_iald (o := 11) (x := σ.1 11 v4.toNatClampNeg) hB.1 dX2_goOn_123 ⟨by decide, rfl⟩ b2 rfl ?_
  refine R_iload_n dX2_goOn_124 rfl ?_
  have J3 : RnH [] G l mX2_goOn (d + 304) (PV ρ E A r σ1) noX 133 [.ref (A 8), .ref (ρ.1 2), .int v2, .int v3, .int v4] [.int (if v2 = 0 then 0 else 1), .int (σ.1 11 v4.toNatClampNeg), .int 0, .int v4, .ref (A 11)] (ov rgM A (upA σ.1 12 (upd (σ.1 12) t1.toNatClampNeg (sj_max t2 (t3 - t4))), σ.2) hp) c k := by
    refine R_isub dX2_goOn_133 ?_
    refine R_mmax dX2_goOn_134 q1101 (Nat.le_of_ble_eq_true rfl) ?_
    refine V_iast (o := 11) (σ9 := (upA (upA σ.1 12 (upd (σ.1 12) t1.toNatClampNeg (sj_max t2 (t3 - t4)))) 11 (upd (σ.1 11) v4.toNatClampNeg (sj_max 0 ((σ.1 11 v4.toNatClampNeg) - (if v2 = 0 then 0 else 1)))), σ.2)) hB.1 dX2_goOn_137 ⟨by decide, rfl⟩ b2 rfl ?_
    refine S_iinc (v := v3 + 1) (ls1 := [.ref (A 8), .ref (ρ.1 2), .int v2, .int (v3 + 1), .int v4]) dX2_goOn_138 rfl rfl (by decide) rfl rfl ?_
    refine R_goto 2 dX2_goOn_141 (by decide) ?_
    refine R_drop 4 ?_
    exact h G l hp hB hR
  refine R_if_eq 132 dX2_goOn_125 (by decide) (fun c4 => ?_) (fun c4 => ?_)
  · refine R_iconst (v := 0) dX2_goOn_132 (by decide) ?_
    simp only [if_pos c4] at J3
    first | exact J3 | (simp only [if_pos c4]; exact J3)
  · refine R_iconst (v := 1) dX2_goOn_128 (by decide) ?_
    refine R_goto 133 dX2_goOn_129 (by decide) ?_
    simp only [if_neg c4] at J3
    first | exact J3 | (simp only [if_neg c4]; exact J3)
theorem gc_X2_goOnt_170 {d : Nat} {v2 : Int32} {v3 : Int32} {v4 : Int32} {c k : Nat} {ρ : Rho} {E : Hp → Prop} {A : Nat → Nat} {σ σ1 : Sg} {r : Option Value} (h : (((nI (ρ.1 0)) ≤ v4) → r = some (.int v3) ∧ σ1 = σ) ∧ ((¬ (nI (ρ.1 0)) ≤ v4) → ((¬ ((v3 >>> (v4 &&& 31)) &&& 1) = 1) → Rv ρ E A mX2_goOn (d + 304) c k 170 [.ref (A 8), .ref (ρ.1 2), .int v2, .int v3, .int (v4 + 1)] [] σ r σ1) ∧ ((((v3 >>> (v4 &&& 31)) &&& 1) = 1) → vp_in v4 6 ∧ (Rv ρ E A mX2_goOn (d + 304) c k 170 [.ref (A 8), .ref (ρ.1 2), .int v2, .int v3, .int (v4 + 1)] [] (upA σ.1 10 (upd (σ.1 10) v4.toNatClampNeg (-1)), σ.2) r σ1)))) : Rv ρ E A mX2_goOn (d + 304) c k 170 [.ref (A 8), .ref (ρ.1 2), .int v2, .int v3, .int v4] [] σ r σ1 := by
  intro G l hp hB hR
  refine R_iload dX2_goOn_170 rfl ?_
  refine R_aload_n dX2_goOn_172 rfl ?_
  refine V_rget (v := .ref (ρ.1 3)) hB dX2_goOn_173 fm_X2_46_2 rfl ?_
  refine V_size (w := 0) hB (by decide) dX2_goOn_176 cv_X2_52 (Nat.le_of_ble_eq_true rfl) ?_
  refine R_icmp_ge 206 dX2_goOn_179 (by decide) (fun c1 => ?_) (fun c1 => ?_)
  · replace h := h.1 c1
    refine R_iload_n dX2_goOn_206 rfl ?_
    exact R_iret dX2_goOn_207 rfl rfl ⟨h.1.symm, hp, hB, by rw [h.2]⟩
  · replace h := h.2 c1
    refine R_iload_n dX2_goOn_182 rfl ?_
    refine R_iload dX2_goOn_183 rfl ?_
    refine R_ishr dX2_goOn_185 ?_
    refine R_iconst (v := 1) dX2_goOn_186 (by decide) ?_
    refine R_iand dX2_goOn_187 ?_
    refine R_iconst (v := 1) dX2_goOn_188 (by decide) ?_
    refine R_icmp_ne 200 dX2_goOn_189 (by decide) (fun c2 => ?_) (fun c2 => ?_)
    · replace h := h.1 c2
      refine S_iinc (v := v4 + 1) (ls1 := [.ref (A 8), .ref (ρ.1 2), .int v2, .int v3, .int (v4 + 1)]) dX2_goOn_200 rfl rfl (by decide) rfl rfl ?_
      refine R_goto 170 dX2_goOn_203 (by decide) ?_
      exact h G l hp hB hR
    · replace h := h.2 c2
      refine R_aload_n dX2_goOn_192 rfl ?_
      refine V_geta (o := 8) (q := 10) hB.1 dX2_goOn_193 fm_X2_15_3 ⟨by decide, by decide, rfl, rfl⟩ ?_
      refine R_iload dX2_goOn_196 rfl ?_
      refine R_iconst (v := (-1)) dX2_goOn_198 (by decide) ?_
      have b3 := h.1
      replace h := h.2
      refine V_iast (o := 10) (σ9 := (upA σ.1 10 (upd (σ.1 10) v4.toNatClampNeg (-1)), σ.2)) hB.1 dX2_goOn_199 ⟨by decide, rfl⟩ b3 rfl ?_
      refine S_iinc (v := v4 + 1) (ls1 := [.ref (A 8), .ref (ρ.1 2), .int v2, .int v3, .int (v4 + 1)]) dX2_goOn_200 rfl rfl (by decide) rfl rfl ?_
      refine R_goto 170 dX2_goOn_203 (by decide) ?_
      exact h G l hp hB hR
theorem gc_X0_ask_0 {d : Nat} {v1 : Int32} {v2 : Int32} {c k : Nat} {ρ : Rho} {E : Hp → Prop} {A : Nat → Nat} {σ σ1 : Sg} {r : Option Value} (h : (((s0_isIn v1 0 1) = 0) → r = some (.int (-1)) ∧ σ1 = σ) ∧ ((¬ (s0_isIn v1 0 1) = 0) → ∃ (n4 n5 : Nat) (r7 : Int32) (σ_2 : Sg), Tv ρ E A mX0_growths (d + 304) n4 n5 [.ref (A 0), .int v2] σ (some (.int r7)) σ_2 ∧ (n4 ≤ c ∧ n5 ≤ k) ∧ (((¬ r7 = 0) → Rv ρ E A mX0_ask (d + 305) (c - n4) (k - n5) 24 [.ref (A 0), .int v1, .int v2, .int 0, .int 1] [] σ_2 r σ1) ∧ ((r7 = 0) → r = some (.int (-1)) ∧ σ1 = σ_2)))) : Rv ρ E A mX0_ask (d + 305) c k 0 [.ref (A 0), .int v1, .int v2, U_, U_] [] σ r σ1 := by
  intro G l hp hB hR
  refine R_iload_n dX0_ask_0 rfl ?_
  refine R_iconst (v := 0) dX0_ask_1 (by decide) ?_
  refine R_iconst (v := 1) dX0_ask_2 (by decide) ?_
  refine V_callS [.int v1, .int 0, .int 1] dX0_ask_3 cs_X0_145 rfl rfl (Nat.le_of_ble_eq_true rfl) (s0t_isIn (d + 303) v1 0 1) ?_
  show RnH [] G l mX0_ask (d + 305) (PV ρ E A r σ1) noX 6 [.ref (A 0), .int v1, .int v2, U_, U_] [.int (s0_isIn v1 0 1)] (ov rgM A σ hp) c k
  refine R_if_eq 17 dX0_ask_6 (by decide) (fun c1 => ?_) (fun c1 => ?_)
  · replace h := h.1 c1
    refine R_iconst (v := (-1)) dX0_ask_17 (by decide) ?_
    exact R_iret dX0_ask_18 rfl rfl ⟨h.1.symm, hp, hB, by rw [h.2]⟩
  · replace h := h.2 c1
    refine R_aload_n dX0_ask_9 rfl ?_
    refine R_iload_n dX0_ask_10 rfl ?_
    obtain ⟨n4, n5, r7, σ_2, e3, h⟩ := h
    have b6 := h.1
    replace h := h.2
    refine V_call (o := 0) [.int v2] hB hR dX0_ask_11 cv_X0_381 rfl rfl (Nat.le_of_ble_eq_true rfl) ⟨by decide, rfl⟩ rfl e3 b6.1 b6.2 (fun hp hB => ?_)
    show RnH [] G l mX0_ask (d + 305) (PV ρ E A r σ1) noX 14 [.ref (A 0), .int v1, .int v2, U_, U_] [.int r7] (ov rgM A σ_2 hp) (c - n4) (k - n5)
    have hR : σ_2.2.2 0 0 = .ref (ρ.1 2) := by rw [e3.1]; exact hR
    refine R_if_ne 19 dX0_ask_14 (by decide) (fun c8 => ?_) (fun c8 => ?_)
    · replace h := h.1 c8
      refine R_iconst (v := 0) dX0_ask_19 (by decide) ?_
      refine S_istore_n (ls1 := [.ref (A 0), .int v1, .int v2, .int 0, U_]) dX0_ask_20 (by decide) rfl rfl ?_
      refine R_iconst (v := 1) dX0_ask_21 (by decide) ?_
      refine S_istore (ls1 := [.ref (A 0), .int v1, .int v2, .int 0, .int 1]) dX0_ask_22 (by decide) rfl rfl ?_
      exact h G l hp hB hR
    · replace h := h.2 c8
      refine R_iconst (v := (-1)) dX0_ask_17 (by decide) ?_
      exact R_iret dX0_ask_18 rfl rfl ⟨h.1.symm, hp, hB, by rw [h.2]⟩
theorem gc_X0_ask_24 {d : Nat} {v1 : Int32} {v2 : Int32} {v3 : Int32} {v4 : Int32} {c k : Nat} {ρ : Rho} {E : Hp → Prop} {A : Nat → Nat} {σ σ1 : Sg} {r : Option Value} (h : ((20 < v4) → ((¬ v1 = 0) → ∃ (n5 n6 : Nat) (r8 : Int32) (σ_3 : Sg), Tv ρ E A mX0_mostBy (d + 304) n5 n6 [.ref (A 0), .int v3, .int v2] σ (some (.int r8)) σ_3 ∧ (n5 ≤ c ∧ n6 ≤ k) ∧ (r = some (.int r8) ∧ σ1 = σ_3)) ∧ ((v1 = 0) → r = some (.int v3) ∧ σ1 = σ)) ∧ ((¬ 20 < v4) → ∃ (n11 n12 : Nat) (r14 : Int32) (σ_9 : Sg), Tv ρ E A mX0_mostBy (d + 304) n11 n12 [.ref (A 0), .int v4, .int v2] σ (some (.int r14)) σ_9 ∧ (n11 ≤ c ∧ n12 ≤ k) ∧ (∃ (n17 n18 : Nat) (r20 : Int32) (σ_15 : Sg), Tv ρ E A mX0_mostBy (d + 304) n17 n18 [.ref (A 0), .int v3, .int v2] σ_9 (some (.int r20)) σ_15 ∧ (n17 ≤ (c - n11) ∧ n18 ≤ (k - n12)) ∧ (((r20 ≤ r14) → Rv ρ E A mX0_ask (d + 305) ((c - n11) - n17) ((k - n12) - n18) 24 [.ref (A 0), .int v1, .int v2, .int v3, .int (v4 + 1)] [] σ_15 r σ1) ∧ ((¬ r20 ≤ r14) → Rv ρ E A mX0_ask (d + 305) ((c - n11) - n17) ((k - n12) - n18) 24 [.ref (A 0), .int v1, .int v2, .int v4, .int (v4 + 1)] [] σ_15 r σ1))))) : Rv ρ E A mX0_ask (d + 305) c k 24 [.ref (A 0), .int v1, .int v2, .int v3, .int v4] [] σ r σ1 := by
  intro G l hp hB hR
  refine R_iload dX0_ask_24 rfl ?_
  refine R_bipush (v := 20) dX0_ask_26 (by decide) ?_
  refine R_icmp_gt 56 dX0_ask_28 (by decide) (fun c1 => ?_) (fun c1 => ?_)
  · replace h := h.1 c1
    refine R_iload_n dX0_ask_56 rfl ?_
    refine R_if_ne 64 dX0_ask_57 (by decide) (fun c2 => ?_) (fun c2 => ?_)
    · replace h := h.1 c2
      refine R_aload_n dX0_ask_64 rfl ?_
      refine R_iload_n dX0_ask_65 rfl ?_
      refine R_iload_n dX0_ask_66 rfl ?_
      obtain ⟨n5, n6, r8, σ_3, e4, h⟩ := h
      have b7 := h.1
      replace h := h.2
      refine V_call (o := 0) [.int v3, .int v2] hB hR dX0_ask_67 cv_X0_384 rfl rfl (Nat.le_of_ble_eq_true rfl) ⟨by decide, rfl⟩ rfl e4 b7.1 b7.2 (fun hp hB => ?_)
      show RnH [] G l mX0_ask (d + 305) (PV ρ E A r σ1) noX 70 [.ref (A 0), .int v1, .int v2, .int v3, .int v4] [.int r8] (ov rgM A σ_3 hp) (c - n5) (k - n6)
      have hR : σ_3.2.2 0 0 = .ref (ρ.1 2) := by rw [e4.1]; exact hR
      exact R_iret dX0_ask_70 rfl rfl ⟨h.1.symm, hp, hB, by rw [h.2]⟩
    · replace h := h.2 c2
      refine R_iload_n dX0_ask_60 rfl ?_
      refine R_goto 70 dX0_ask_61 (by decide) ?_
      exact R_iret dX0_ask_70 rfl rfl ⟨h.1.symm, hp, hB, by rw [h.2]⟩
  · replace h := h.2 c1
    refine R_aload_n dX0_ask_31 rfl ?_
    refine R_iload dX0_ask_32 rfl ?_
    refine R_iload_n dX0_ask_34 rfl ?_
    obtain ⟨n11, n12, r14, σ_9, e10, h⟩ := h
    have b13 := h.1
    replace h := h.2
    refine V_call (o := 0) [.int v4, .int v2] hB hR dX0_ask_35 cv_X0_384 rfl rfl (Nat.le_of_ble_eq_true rfl) ⟨by decide, rfl⟩ rfl e10 b13.1 b13.2 (fun hp hB => ?_)
    show RnH [] G l mX0_ask (d + 305) (PV ρ E A r σ1) noX 38 [.ref (A 0), .int v1, .int v2, .int v3, .int v4] [.int r14] (ov rgM A σ_9 hp) (c - n11) (k - n12)
    have hR : σ_9.2.2 0 0 = .ref (ρ.1 2) := by rw [e10.1]; exact hR
    refine R_aload_n dX0_ask_38 rfl ?_
    refine R_iload_n dX0_ask_39 rfl ?_
    refine R_iload_n dX0_ask_40 rfl ?_
    obtain ⟨n17, n18, r20, σ_15, e16, h⟩ := h
    have b19 := h.1
    replace h := h.2
    refine V_call (o := 0) [.int v3, .int v2] hB hR dX0_ask_41 cv_X0_384 rfl rfl (Nat.le_of_ble_eq_true rfl) ⟨by decide, rfl⟩ rfl e16 b19.1 b19.2 (fun hp hB => ?_)
    show RnH [] G l mX0_ask (d + 305) (PV ρ E A r σ1) noX 44 [.ref (A 0), .int v1, .int v2, .int v3, .int v4] [.int r20, .int r14] (ov rgM A σ_15 hp) ((c - n11) - n17) ((k - n12) - n18)
    have hR : σ_15.2.2 0 0 = .ref (ρ.1 2) := by rw [e16.1]; exact hR
    refine R_icmp_ge 50 dX0_ask_44 (by decide) (fun c21 => ?_) (fun c21 => ?_)
    · replace h := h.1 c21
      refine S_iinc (v := v4 + 1) (ls1 := [.ref (A 0), .int v1, .int v2, .int v3, .int (v4 + 1)]) dX0_ask_50 rfl rfl (by decide) rfl rfl ?_
      refine R_goto 24 dX0_ask_53 (by decide) ?_
      exact h G l hp hB hR
    · replace h := h.2 c21
      refine R_iload dX0_ask_47 rfl ?_
      refine S_istore_n (ls1 := [.ref (A 0), .int v1, .int v2, .int v4, .int v4]) dX0_ask_49 (by decide) rfl rfl ?_
      refine S_iinc (v := v4 + 1) (ls1 := [.ref (A 0), .int v1, .int v2, .int v4, .int (v4 + 1)]) dX0_ask_50 rfl rfl (by decide) rfl rfl ?_
      refine R_goto 24 dX0_ask_53 (by decide) ?_
      exact h G l hp hB hR
theorem gc_X0_bareBehind_0 {d : Nat} {v1 : Int32} {c k : Nat} {ρ : Rho} {E : Hp → Prop} {A : Nat → Nat} {σ σ1 : Sg} {r : Option Value} (h : ∃ (σ_1 : Sg), Tv ρ E A mX2_of (d + 304) 0 0 [.ref (A 8), .ref (A 1)] σ none σ_1 ∧ (Rv ρ E A mX0_bareBehind (d + 305) c k 13 [.ref (A 0), .int v1, .int 0] [] σ_1 r σ1)) : Rv ρ E A mX0_bareBehind (d + 305) c k 0 [.ref (A 0), .int v1, U_] [] σ r σ1 := by
  intro G l hp hB hR
  refine R_aload_n dX0_bareBehind_0 rfl ?_
  refine V_geta (o := 0) (q := 8) hB.1 dX0_bareBehind_1 fm_X0_32_1 ⟨by decide, by decide, rfl, rfl⟩ ?_
  refine R_aload_n dX0_bareBehind_4 rfl ?_
  refine V_geta (o := 0) (q := 1) hB.1 dX0_bareBehind_5 fm_X0_28_1 ⟨by decide, by decide, rfl, rfl⟩ ?_
  obtain ⟨σ_1, e2, h⟩ := h
  refine V_call (o := 8) [.ref (A 1)] hB hR dX0_bareBehind_8 cv_X0_118 rfl rfl (Nat.le_of_ble_eq_true rfl) ⟨by decide, rfl⟩ rfl e2 (Nat.zero_le _) (Nat.zero_le _) (fun hp hB => ?_)
  show RnH [] G l mX0_bareBehind (d + 305) (PV ρ E A r σ1) noX 11 [.ref (A 0), .int v1, U_] [] (ov rgM A σ_1 hp) c k
  have hR : σ_1.2.2 0 0 = .ref (ρ.1 2) := by rw [e2.1]; exact hR
  refine R_iconst (v := 0) dX0_bareBehind_11 (by decide) ?_
  refine S_istore_n (ls1 := [.ref (A 0), .int v1, .int 0]) dX0_bareBehind_12 (by decide) rfl rfl ?_
  exact h G l hp hB hR
theorem gc_X0_bareBehind_13 {d : Nat} {v1 : Int32} {v2 : Int32} {c k : Nat} {ρ : Rho} {E : Hp → Prop} {A : Nat → Nat} {σ σ1 : Sg} {r : Option Value} (h : ((60 < v2) → r = some (.int (-1)) ∧ σ1 = σ) ∧ ((¬ 60 < v2) → ∃ (r4 : Int32) (σ_2 : Sg), Tv ρ E A mX2_dressed (d + 304) 0 0 [.ref (A 8)] σ (some (.int r4)) σ_2 ∧ (((¬ (r4 &&& v1) = 0) → ∃ (r8 : Int32) (σ_6 : Sg), Tv ρ E A mX2_goOn (d + 304) 0 0 [.ref (A 8), .ref (ρ.1 2), .int 0] σ_2 (some (.int r8)) σ_6 ∧ (Rv ρ E A mX0_bareBehind (d + 305) c k 13 [.ref (A 0), .int v1, .int (v2 + 1)] [] σ_6 r σ1)) ∧ (((r4 &&& v1) = 0) → r = some (.int v2) ∧ σ1 = σ_2)))) : Rv ρ E A mX0_bareBehind (d + 305) c k 13 [.ref (A 0), .int v1, .int v2] [] σ r σ1 := by
  intro G l hp hB hR
  refine R_iload_n dX0_bareBehind_13 rfl ?_
  refine R_bipush (v := 60) dX0_bareBehind_14 (by decide) ?_
  refine R_icmp_gt 52 dX0_bareBehind_16 (by decide) (fun c1 => ?_) (fun c1 => ?_)
  · replace h := h.1 c1
    refine R_iconst (v := (-1)) dX0_bareBehind_52 (by decide) ?_
    exact R_iret dX0_bareBehind_53 rfl rfl ⟨h.1.symm, hp, hB, by rw [h.2]⟩
  · replace h := h.2 c1
    refine R_aload_n dX0_bareBehind_19 rfl ?_
    refine V_geta (o := 0) (q := 8) hB.1 dX0_bareBehind_20 fm_X0_32_1 ⟨by decide, by decide, rfl, rfl⟩ ?_
    obtain ⟨r4, σ_2, e3, h⟩ := h
    refine V_call (o := 8) [] hB hR dX0_bareBehind_23 cv_X0_254 rfl rfl (Nat.le_of_ble_eq_true rfl) ⟨by decide, rfl⟩ rfl e3 (Nat.zero_le _) (Nat.zero_le _) (fun hp hB => ?_)
    show RnH [] G l mX0_bareBehind (d + 305) (PV ρ E A r σ1) noX 26 [.ref (A 0), .int v1, .int v2] [.int r4] (ov rgM A σ_2 hp) c k
    have hR : σ_2.2.2 0 0 = .ref (ρ.1 2) := by rw [e3.1]; exact hR
    refine R_iload_n dX0_bareBehind_26 rfl ?_
    refine R_iand dX0_bareBehind_27 ?_
    refine R_if_ne 33 dX0_bareBehind_28 (by decide) (fun c5 => ?_) (fun c5 => ?_)
    · replace h := h.1 c5
      refine R_aload_n dX0_bareBehind_33 rfl ?_
      refine V_geta (o := 0) (q := 8) hB.1 dX0_bareBehind_34 fm_X0_32_1 ⟨by decide, by decide, rfl, rfl⟩ ?_
      refine R_aload_n dX0_bareBehind_37 rfl ?_
      refine V_getr (o := 0) (v := .ref (ρ.1 2)) hB.1 dX0_bareBehind_38 fm_X0_19_1 ⟨by decide, by decide, rfl, rfl⟩ hR ?_
      refine R_iconst (v := 0) dX0_bareBehind_41 (by decide) ?_
      obtain ⟨r8, σ_6, e7, h⟩ := h
      refine V_call (o := 8) [.ref (ρ.1 2), .int 0] hB hR dX0_bareBehind_42 cv_X0_250 rfl rfl (Nat.le_of_ble_eq_true rfl) ⟨by decide, rfl⟩ rfl e7 (Nat.zero_le _) (Nat.zero_le _) (fun hp hB => ?_)
      show RnH [] G l mX0_bareBehind (d + 305) (PV ρ E A r σ1) noX 45 [.ref (A 0), .int v1, .int v2] [.int r8] (ov rgM A σ_6 hp) c k
      have hR : σ_6.2.2 0 0 = .ref (ρ.1 2) := by rw [e7.1]; exact hR
      refine R_pop dX0_bareBehind_45 rfl ?_
      refine S_iinc (v := v2 + 1) (ls1 := [.ref (A 0), .int v1, .int (v2 + 1)]) dX0_bareBehind_46 rfl rfl (by decide) rfl rfl ?_
      refine R_goto 13 dX0_bareBehind_49 (by decide) ?_
      exact h G l hp hB hR
    · replace h := h.2 c5
      refine R_iload_n dX0_bareBehind_31 rfl ?_
      exact R_iret dX0_bareBehind_32 rfl rfl ⟨h.1.symm, hp, hB, by rw [h.2]⟩
theorem gc_X0_change_0 {d : Nat} {v1 : Int32} {c k : Nat} {ρ : Rho} {E : Hp → Prop} {A : Nat → Nat} {σ σ1 : Sg} {r : Option Value} (h : ∃ (r3 : Int32) (σ_1 : Sg), Tv ρ E A mX0_fitted (d + 304) 0 0 [.ref (A 0)] σ (some (.int r3)) σ_1 ∧ (Rv ρ E A mX0_change (d + 305) c k 13 [.ref (A 0), .int v1, .int (sj_bitCount r3), .int (-1), .int 0, U_, U_] [] σ_1 r σ1)) : Rv ρ E A mX0_change (d + 305) c k 0 [.ref (A 0), .int v1, U_, U_, U_, U_, U_] [] σ r σ1 := by
  intro G l hp hB hR
  refine R_aload_n dX0_change_0 rfl ?_
  obtain ⟨r3, σ_1, e2, h⟩ := h
  refine V_call (o := 0) [] hB hR dX0_change_1 cv_X0_279 rfl rfl (Nat.le_of_ble_eq_true rfl) ⟨by decide, rfl⟩ rfl e2 (Nat.zero_le _) (Nat.zero_le _) (fun hp hB => ?_)
  show RnH [] G l mX0_change (d + 305) (PV ρ E A r σ1) noX 4 [.ref (A 0), .int v1, U_, U_, U_, U_, U_] [.int r3] (ov rgM A σ_1 hp) c k
  have hR : σ_1.2.2 0 0 = .ref (ρ.1 2) := by rw [e2.1]; exact hR
  refine V_callS [.int r3] dX0_change_4 cs_X0_281 rfl rfl (Nat.le_of_ble_eq_true rfl) (sjt_bitCount (d + 303) r3) ?_
  show RnH [] G l mX0_change (d + 305) (PV ρ E A r σ1) noX 7 [.ref (A 0), .int v1, U_, U_, U_, U_, U_] [.int (sj_bitCount r3)] (ov rgM A σ_1 hp) c k
  refine S_istore_n (ls1 := [.ref (A 0), .int v1, .int (sj_bitCount r3), U_, U_, U_, U_]) dX0_change_7 (by decide) rfl rfl ?_
  refine R_iconst (v := (-1)) dX0_change_8 (by decide) ?_
  refine S_istore_n (ls1 := [.ref (A 0), .int v1, .int (sj_bitCount r3), .int (-1), U_, U_, U_]) dX0_change_9 (by decide) rfl rfl ?_
  refine R_iconst (v := 0) dX0_change_10 (by decide) ?_
  refine S_istore (ls1 := [.ref (A 0), .int v1, .int (sj_bitCount r3), .int (-1), .int 0, U_, U_]) dX0_change_11 (by decide) rfl rfl ?_
  exact h G l hp hB hR
theorem gc_X0_change_13 {d : Nat} {v1 : Int32} {v2 : Int32} {v3 : Int32} {v4 : Int32} {c k : Nat} {ρ : Rho} {E : Hp → Prop} {A : Nat → Nat} {σ σ1 : Sg} {r : Option Value} (h : ∃ (r3 : Int32) (σ_1 : Sg), Tv ρ E A mX0_men (d + 304) 0 0 [.ref (A 0)] σ (some (.int r3)) σ_1 ∧ (((r3 ≤ v4) → ((0 ≤ v3) → ((¬ v1 = 0) → ((¬ v1 = 1) → r = some (.int (if v1 = 2 then v2 else (-1))) ∧ σ1 = σ_1) ∧ ((v1 = 1) → r = some (.int (v3 - v3 / 6 * 6)) ∧ σ1 = σ_1)) ∧ ((v1 = 0) → r = some (.int (v3 / 6)) ∧ σ1 = σ_1)) ∧ ((¬ 0 ≤ v3) → r = some (.int (-1)) ∧ σ1 = σ_1)) ∧ ((¬ r3 ≤ v4) → Rv ρ E A mX0_change (d + 305) c k 28 [.ref (A 0), .int v1, .int v2, .int v3, .int v4, .int (v4 + 1), U_] [] σ_1 r σ1))) : Rv ρ E A mX0_change (d + 305) c k 13 [.ref (A 0), .int v1, .int v2, .int v3, .int v4, U_, U_] [] σ r σ1 := by
  intro G l hp hB hR
  refine R_iload dX0_change_13 rfl ?_
  refine R_aload_n dX0_change_15 rfl ?_
  obtain ⟨r3, σ_1, e2, h⟩ := h
  refine V_call (o := 0) [] hB hR dX0_change_16 cv_X0_143 rfl rfl (Nat.le_of_ble_eq_true rfl) ⟨by decide, rfl⟩ rfl e2 (Nat.zero_le _) (Nat.zero_le _) (fun hp hB => ?_)
  show RnH [] G l mX0_change (d + 305) (PV ρ E A r σ1) noX 19 [.ref (A 0), .int v1, .int v2, .int v3, .int v4, U_, U_] [.int r3, .int v4] (ov rgM A σ_1 hp) c k
  have hR : σ_1.2.2 0 0 = .ref (ρ.1 2) := by rw [e2.1]; exact hR
  refine R_icmp_ge 108 dX0_change_19 (by decide) (fun c4 => ?_) (fun c4 => ?_)
  · replace h := h.1 c4
    refine R_iload_n dX0_change_108 rfl ?_
    refine R_if_ge 116 dX0_change_109 (by decide) (fun c5 => ?_) (fun c5 => ?_)
    · replace h := h.1 c5
      refine R_iload_n dX0_change_116 rfl ?_
      refine R_if_ne 127 dX0_change_117 (by decide) (fun c6 => ?_) (fun c6 => ?_)
      · replace h := h.1 c6
        refine R_iload_n dX0_change_127 rfl ?_
        refine R_iconst (v := 1) dX0_change_128 (by decide) ?_
        refine R_icmp_ne 139 dX0_change_129 (by decide) (fun c7 => ?_) (fun c7 => ?_)
        · replace h := h.1 c7
          refine R_iload_n dX0_change_139 rfl ?_
          refine R_iconst (v := 2) dX0_change_140 (by decide) ?_
          have J8 : RnH [] G l mX0_change (d + 305) (PV ρ E A r σ1) noX 149 [.ref (A 0), .int v1, .int v2, .int v3, .int v4, U_, U_] [.int (if v1 = 2 then v2 else (-1))] (ov rgM A σ_1 hp) c k := by
            exact R_iret dX0_change_149 rfl rfl ⟨h.1.symm, hp, hB, by rw [h.2]⟩
          refine R_icmp_ne 148 dX0_change_141 (by decide) (fun c9 => ?_) (fun c9 => ?_)
          · refine R_iconst (v := (-1)) dX0_change_148 (by decide) ?_
            simp only [if_neg c9] at J8
            first | exact J8 | (simp only [if_neg c9]; exact J8)
          · refine R_iload_n dX0_change_144 rfl ?_
            refine R_goto 149 dX0_change_145 (by decide) ?_
            simp only [if_pos c9] at J8
            first | exact J8 | (simp only [if_pos c9]; exact J8)
        · replace h := h.2 c7
          refine R_iload_n dX0_change_132 rfl ?_
          refine R_bipush (v := 6) dX0_change_133 (by decide) ?_
          refine R_irem dX0_change_135 (by decide) ?_
          refine R_goto 149 dX0_change_136 (by decide) ?_
          exact R_iret dX0_change_149 rfl rfl ⟨h.1.symm, hp, hB, by rw [h.2]⟩
      · replace h := h.2 c6
        refine R_iload_n dX0_change_120 rfl ?_
        refine R_bipush (v := 6) dX0_change_121 (by decide) ?_
        refine R_idiv dX0_change_123 (by decide) ?_
        refine R_goto 149 dX0_change_124 (by decide) ?_
        exact R_iret dX0_change_149 rfl rfl ⟨h.1.symm, hp, hB, by rw [h.2]⟩
    · replace h := h.2 c5
      refine R_iconst (v := (-1)) dX0_change_112 (by decide) ?_
      refine R_goto 149 dX0_change_113 (by decide) ?_
      exact R_iret dX0_change_149 rfl rfl ⟨h.1.symm, hp, hB, by rw [h.2]⟩
  · replace h := h.2 c4
    refine R_iload dX0_change_22 rfl ?_
    refine R_iconst (v := 1) dX0_change_24 (by decide) ?_
    refine R_iadd dX0_change_25 ?_
    refine S_istore (ls1 := [.ref (A 0), .int v1, .int v2, .int v3, .int v4, .int (v4 + 1), U_]) dX0_change_26 (by decide) rfl rfl ?_
    exact h G l hp hB hR
theorem gc_X0_change_28 {d : Nat} {v1 : Int32} {v2 : Int32} {v3 : Int32} {v4 : Int32} {v5 : Int32} {c k : Nat} {ρ : Rho} {E : Hp → Prop} {A : Nat → Nat} {σ σ1 : Sg} {r : Option Value} (h : ∃ (r3 : Int32) (σ_1 : Sg), Tv ρ E A mX0_men (d + 304) 0 0 [.ref (A 0)] σ (some (.int r3)) σ_1 ∧ (((r3 ≤ v5) → Rv ρ E A mX0_change (d + 305) c k 13 [.ref (A 0), .int v1, .int v2, .int v3, .int (v4 + 1), U_, U_] [] σ_1 r σ1) ∧ ((¬ r3 ≤ v5) → ∃ (σ_5 : Sg), Tv ρ E A mX2_of (d + 304) 0 0 [.ref (A 8), .ref (A 1)] σ_1 none σ_5 ∧ (∃ (σ_7 : Sg), Tv ρ E A mX2_exchange (d + 304) 0 0 [.ref (A 8), .int v4, .int v5] σ_5 none σ_7 ∧ (∃ (r11 : Int32) (σ_9 : Sg), Tv ρ E A mX2_fitted (d + 304) 0 0 [.ref (A 8), .ref (ρ.1 2)] σ_7 (some (.int r11)) σ_9 ∧ (((v2 < (sj_bitCount r11)) → Rv ρ E A mX0_change (d + 305) c k 28 [.ref (A 0), .int v1, .int (sj_bitCount r11), .int ((6 * v4) + v5), .int v4, .int (v5 + 1), U_] [] σ_9 r σ1) ∧ ((¬ v2 < (sj_bitCount r11)) → Rv ρ E A mX0_change (d + 305) c k 28 [.ref (A 0), .int v1, .int v2, .int v3, .int v4, .int (v5 + 1), U_] [] σ_9 r σ1))))))) : Rv ρ E A mX0_change (d + 305) c k 28 [.ref (A 0), .int v1, .int v2, .int v3, .int v4, .int v5, U_] [] σ r σ1 := by
  intro G l hp hB hR
  refine R_iload dX0_change_28 rfl ?_
  refine R_aload_n dX0_change_30 rfl ?_
  obtain ⟨r3, σ_1, e2, h⟩ := h
  refine V_call (o := 0) [] hB hR dX0_change_31 cv_X0_143 rfl rfl (Nat.le_of_ble_eq_true rfl) ⟨by decide, rfl⟩ rfl e2 (Nat.zero_le _) (Nat.zero_le _) (fun hp hB => ?_)
  show RnH [] G l mX0_change (d + 305) (PV ρ E A r σ1) noX 34 [.ref (A 0), .int v1, .int v2, .int v3, .int v4, .int v5, U_] [.int r3, .int v5] (ov rgM A σ_1 hp) c k
  have hR : σ_1.2.2 0 0 = .ref (ρ.1 2) := by rw [e2.1]; exact hR
  refine R_icmp_ge 102 dX0_change_34 (by decide) (fun c4 => ?_) (fun c4 => ?_)
  · replace h := h.1 c4
    refine S_iinc (v := v4 + 1) (ls1 := [.ref (A 0), .int v1, .int v2, .int v3, .int (v4 + 1), .int v5, U_]) dX0_change_102 rfl rfl (by decide) rfl rfl ?_
    refine R_goto 13 dX0_change_105 (by decide) ?_
    refine R_drop 5 ?_
    exact h G l hp hB hR
  · replace h := h.2 c4
    refine R_aload_n dX0_change_37 rfl ?_
    refine V_geta (o := 0) (q := 8) hB.1 dX0_change_38 fm_X0_32_1 ⟨by decide, by decide, rfl, rfl⟩ ?_
    refine R_aload_n dX0_change_41 rfl ?_
    refine V_geta (o := 0) (q := 1) hB.1 dX0_change_42 fm_X0_28_1 ⟨by decide, by decide, rfl, rfl⟩ ?_
    obtain ⟨σ_5, e6, h⟩ := h
    refine V_call (o := 8) [.ref (A 1)] hB hR dX0_change_45 cv_X0_118 rfl rfl (Nat.le_of_ble_eq_true rfl) ⟨by decide, rfl⟩ rfl e6 (Nat.zero_le _) (Nat.zero_le _) (fun hp hB => ?_)
    show RnH [] G l mX0_change (d + 305) (PV ρ E A r σ1) noX 48 [.ref (A 0), .int v1, .int v2, .int v3, .int v4, .int v5, U_] [] (ov rgM A σ_5 hp) c k
    have hR : σ_5.2.2 0 0 = .ref (ρ.1 2) := by rw [e6.1]; exact hR
    refine R_aload_n dX0_change_48 rfl ?_
    refine V_geta (o := 0) (q := 8) hB.1 dX0_change_49 fm_X0_32_1 ⟨by decide, by decide, rfl, rfl⟩ ?_
    refine R_iload dX0_change_52 rfl ?_
    refine R_iload dX0_change_54 rfl ?_
    obtain ⟨σ_7, e8, h⟩ := h
    refine V_call (o := 8) [.int v4, .int v5] hB hR dX0_change_56 cv_X0_286 rfl rfl (Nat.le_of_ble_eq_true rfl) ⟨by decide, rfl⟩ rfl e8 (Nat.zero_le _) (Nat.zero_le _) (fun hp hB => ?_)
    show RnH [] G l mX0_change (d + 305) (PV ρ E A r σ1) noX 59 [.ref (A 0), .int v1, .int v2, .int v3, .int v4, .int v5, U_] [] (ov rgM A σ_7 hp) c k
    have hR : σ_7.2.2 0 0 = .ref (ρ.1 2) := by rw [e8.1]; exact hR
    refine R_aload_n dX0_change_59 rfl ?_
    refine V_geta (o := 0) (q := 8) hB.1 dX0_change_60 fm_X0_32_1 ⟨by decide, by decide, rfl, rfl⟩ ?_
    refine R_aload_n dX0_change_63 rfl ?_
    refine V_getr (o := 0) (v := .ref (ρ.1 2)) hB.1 dX0_change_64 fm_X0_19_1 ⟨by decide, by decide, rfl, rfl⟩ hR ?_
    obtain ⟨r11, σ_9, e10, h⟩ := h
    refine V_call (o := 8) [.ref (ρ.1 2)] hB hR dX0_change_67 cv_X0_260 rfl rfl (Nat.le_of_ble_eq_true rfl) ⟨by decide, rfl⟩ rfl e10 (Nat.zero_le _) (Nat.zero_le _) (fun hp hB => ?_)
    show RnH [] G l mX0_change (d + 305) (PV ρ E A r σ1) noX 70 [.ref (A 0), .int v1, .int v2, .int v3, .int v4, .int v5, U_] [.int r11] (ov rgM A σ_9 hp) c k
    have hR : σ_9.2.2 0 0 = .ref (ρ.1 2) := by rw [e10.1]; exact hR
    refine V_callS [.int r11] dX0_change_70 cs_X0_281 rfl rfl (Nat.le_of_ble_eq_true rfl) (sjt_bitCount (d + 303) r11) ?_
    show RnH [] G l mX0_change (d + 305) (PV ρ E A r σ1) noX 73 [.ref (A 0), .int v1, .int v2, .int v3, .int v4, .int v5, U_] [.int (sj_bitCount r11)] (ov rgM A σ_9 hp) c k
    refine S_istore (ls1 := [.ref (A 0), .int v1, .int v2, .int v3, .int v4, .int v5, .int (sj_bitCount r11)]) dX0_change_73 (by decide) rfl rfl ?_
    refine R_iload dX0_change_75 rfl ?_
    refine R_iload_n dX0_change_77 rfl ?_
    refine R_icmp_gt 84 dX0_change_78 (by decide) (fun c12 => ?_) (fun c12 => ?_)
    · replace h := h.1 c12
      refine R_bipush (v := 6) dX0_change_84 (by decide) ?_
      refine R_iload dX0_change_86 rfl ?_
      refine R_imul dX0_change_88 ?_
      refine R_iload dX0_change_89 rfl ?_
      refine R_iadd dX0_change_91 ?_
      refine S_istore_n (ls1 := [.ref (A 0), .int v1, .int v2, .int ((6 * v4) + v5), .int v4, .int v5, .int (sj_bitCount r11)]) dX0_change_92 (by decide) rfl rfl ?_
      refine R_iload dX0_change_93 rfl ?_
      refine S_istore_n (ls1 := [.ref (A 0), .int v1, .int (sj_bitCount r11), .int ((6 * v4) + v5), .int v4, .int v5, .int (sj_bitCount r11)]) dX0_change_95 (by decide) rfl rfl ?_
      refine S_iinc (v := v5 + 1) (ls1 := [.ref (A 0), .int v1, .int (sj_bitCount r11), .int ((6 * v4) + v5), .int v4, .int (v5 + 1), .int (sj_bitCount r11)]) dX0_change_96 rfl rfl (by decide) rfl rfl ?_
      refine R_goto 28 dX0_change_99 (by decide) ?_
      refine R_drop 6 ?_
      exact h G l hp hB hR
    · replace h := h.2 c12
      refine R_goto 96 dX0_change_81 (by decide) ?_
      refine S_iinc (v := v5 + 1) (ls1 := [.ref (A 0), .int v1, .int v2, .int v3, .int v4, .int (v5 + 1), .int (sj_bitCount r11)]) dX0_change_96 rfl rfl (by decide) rfl rfl ?_
      refine R_goto 28 dX0_change_99 (by decide) ?_
      refine R_drop 6 ?_
      exact h G l hp hB hR
theorem gc_X0_sure_0 {d : Nat} {v1 : Int32} {v2 : Int32} {c k : Nat} {ρ : Rho} {E : Hp → Prop} {A : Nat → Nat} {σ σ1 : Sg} {r : Option Value} (h : (((s0_isIn v1 0 1) = 0) → r = some (.int (-1)) ∧ σ1 = σ) ∧ ((¬ (s0_isIn v1 0 1) = 0) → ∃ (n4 n5 : Nat) (r7 : Int32) (σ_2 : Sg), Tv ρ E A mX0_growths (d + 304) n4 n5 [.ref (A 0), .int v2] σ (some (.int r7)) σ_2 ∧ (n4 ≤ c ∧ n5 ≤ k) ∧ (((¬ r7 = 0) → Rv ρ E A mX0_sure (d + 305) (c - n4) (k - n5) 30 [.ref (A 0), .int v1, .int v2, .int (if v1 = 0 then 0 else 30)] [] σ_2 r σ1) ∧ ((r7 = 0) → r = some (.int (-1)) ∧ σ1 = σ_2)))) : Rv ρ E A mX0_sure (d + 305) c k 0 [.ref (A 0), .int v1, .int v2, U_] [] σ r σ1 := by
  intro G l hp hB hR
  refine R_iload_n dX0_sure_0 rfl ?_
  refine R_iconst (v := 0) dX0_sure_1 (by decide) ?_
  refine R_iconst (v := 1) dX0_sure_2 (by decide) ?_
  refine V_callS [.int v1, .int 0, .int 1] dX0_sure_3 cs_X0_145 rfl rfl (Nat.le_of_ble_eq_true rfl) (s0t_isIn (d + 303) v1 0 1) ?_
  show RnH [] G l mX0_sure (d + 305) (PV ρ E A r σ1) noX 6 [.ref (A 0), .int v1, .int v2, U_] [.int (s0_isIn v1 0 1)] (ov rgM A σ hp) c k
  refine R_if_eq 17 dX0_sure_6 (by decide) (fun c1 => ?_) (fun c1 => ?_)
  · replace h := h.1 c1
    refine R_iconst (v := (-1)) dX0_sure_17 (by decide) ?_
    exact R_iret dX0_sure_18 rfl rfl ⟨h.1.symm, hp, hB, by rw [h.2]⟩
  · replace h := h.2 c1
    refine R_aload_n dX0_sure_9 rfl ?_
    refine R_iload_n dX0_sure_10 rfl ?_
    obtain ⟨n4, n5, r7, σ_2, e3, h⟩ := h
    have b6 := h.1
    replace h := h.2
    refine V_call (o := 0) [.int v2] hB hR dX0_sure_11 cv_X0_381 rfl rfl (Nat.le_of_ble_eq_true rfl) ⟨by decide, rfl⟩ rfl e3 b6.1 b6.2 (fun hp hB => ?_)
    show RnH [] G l mX0_sure (d + 305) (PV ρ E A r σ1) noX 14 [.ref (A 0), .int v1, .int v2, U_] [.int r7] (ov rgM A σ_2 hp) (c - n4) (k - n5)
    have hR : σ_2.2.2 0 0 = .ref (ρ.1 2) := by rw [e3.1]; exact hR
    refine R_if_ne 19 dX0_sure_14 (by decide) (fun c8 => ?_) (fun c8 => ?_)
    · replace h := h.1 c8
      refine R_iload_n dX0_sure_19 rfl ?_
      have J9 : RnH [] G l mX0_sure (d + 305) (PV ρ E A r σ1) noX 29 [.ref (A 0), .int v1, .int v2, U_] [.int (if v1 = 0 then 0 else 30)] (ov rgM A σ_2 hp) (c - n4) (k - n5) := by
        refine S_istore_n (ls1 := [.ref (A 0), .int v1, .int v2, .int (if v1 = 0 then 0 else 30)]) dX0_sure_29 (by decide) rfl rfl ?_
        exact h G l hp hB hR
      refine R_if_ne 27 dX0_sure_20 (by decide) (fun c10 => ?_) (fun c10 => ?_)
      · refine R_bipush (v := 30) dX0_sure_27 (by decide) ?_
        simp only [if_neg c10] at J9
        first | exact J9 | (simp only [if_neg c10]; exact J9)
      · refine R_iconst (v := 0) dX0_sure_23 (by decide) ?_
        refine R_goto 29 dX0_sure_24 (by decide) ?_
        simp only [if_pos c10] at J9
        first | exact J9 | (simp only [if_pos c10]; exact J9)
    · replace h := h.2 c8
      refine R_iconst (v := (-1)) dX0_sure_17 (by decide) ?_
      exact R_iret dX0_sure_18 rfl rfl ⟨h.1.symm, hp, hB, by rw [h.2]⟩
theorem gc_X0_sure_30 {d : Nat} {v1 : Int32} {v2 : Int32} {v3 : Int32} {c k : Nat} {ρ : Rho} {E : Hp → Prop} {A : Nat → Nat} {σ σ1 : Sg} {r : Option Value} (h : ∃ (n3 n4 : Nat) (r6 : Int32) (σ_1 : Sg), Tv ρ E A mX0_isSo (d + 304) n3 n4 [.ref (A 0), .int v3, .int v2] σ (some (.int r6)) σ_1 ∧ (n3 ≤ c ∧ n4 ≤ k) ∧ (((¬ r6 = 0) → r = some (.int v3) ∧ σ1 = σ_1) ∧ ((r6 = 0) → Rv ρ E A mX0_sure (d + 305) (c - n3) (k - n4) 30 [.ref (A 0), .int v1, .int v2, .int (v3 + (if v1 = 0 then 1 else (-1)))] [] σ_1 r σ1))) : Rv ρ E A mX0_sure (d + 305) c k 30 [.ref (A 0), .int v1, .int v2, .int v3] [] σ r σ1 := by
  intro G l hp hB hR
  refine R_aload_n dX0_sure_30 rfl ?_
  refine R_iload_n dX0_sure_31 rfl ?_
  refine R_iload_n dX0_sure_32 rfl ?_
  obtain ⟨n3, n4, r6, σ_1, e2, h⟩ := h
  have b5 := h.1
  replace h := h.2
  refine V_call (o := 0) [.int v3, .int v2] hB hR dX0_sure_33 cv_X0_378 rfl rfl (Nat.le_of_ble_eq_true rfl) ⟨by decide, rfl⟩ rfl e2 b5.1 b5.2 (fun hp hB => ?_)
  show RnH [] G l mX0_sure (d + 305) (PV ρ E A r σ1) noX 36 [.ref (A 0), .int v1, .int v2, .int v3] [.int r6] (ov rgM A σ_1 hp) (c - n3) (k - n4)
  have hR : σ_1.2.2 0 0 = .ref (ρ.1 2) := by rw [e2.1]; exact hR
  refine R_if_ne 54 dX0_sure_36 (by decide) (fun c7 => ?_) (fun c7 => ?_)
  · replace h := h.1 c7
    refine R_iload_n dX0_sure_54 rfl ?_
    exact R_iret dX0_sure_55 rfl rfl ⟨h.1.symm, hp, hB, by rw [h.2]⟩
  · replace h := h.2 c7
    refine R_iload_n dX0_sure_39 rfl ?_
    refine R_iload_n dX0_sure_40 rfl ?_
    have J8 : RnH [] G l mX0_sure (d + 305) (PV ρ E A r σ1) noX 49 [.ref (A 0), .int v1, .int v2, .int v3] [.int (if v1 = 0 then 1 else (-1)), .int v3] (ov rgM A σ_1 hp) (c - n3) (k - n4) := by
      refine R_iadd dX0_sure_49 ?_
      refine S_istore_n (ls1 := [.ref (A 0), .int v1, .int v2, .int (v3 + (if v1 = 0 then 1 else (-1)))]) dX0_sure_50 (by decide) rfl rfl ?_
      refine R_goto 30 dX0_sure_51 (by decide) ?_
      exact h G l hp hB hR
    refine R_if_ne 48 dX0_sure_41 (by decide) (fun c9 => ?_) (fun c9 => ?_)
    · refine R_iconst (v := (-1)) dX0_sure_48 (by decide) ?_
      simp only [if_neg c9] at J8
      first | exact J8 | (simp only [if_neg c9]; exact J8)
    · refine R_iconst (v := 1) dX0_sure_44 (by decide) ?_
      refine R_goto 49 dX0_sure_45 (by decide) ?_
      simp only [if_pos c9] at J8
      first | exact J8 | (simp only [if_pos c9]; exact J8)
theorem gc_X2_earnestn_0 {d : Nat} {c k : Nat} {ρ : Rho} {E : Hp → Prop} {A : Nat → Nat} {σ σ1 : Sg} {r : Option Value} (h : ∃ (r4 : Int32) (σ_2 : Sg), Tv ρ E A mX2_goOn (d + 304) 0 0 [.ref (A 1), .ref (ρ.1 2), .int (if (rgI ρ 12) ≤ ((((137 * (σ.1 1 8)) + 71) - ((137 * (σ.1 1 8)) + 71) / 1000 * 1000) - (((137 * (σ.1 1 8)) + 71) - ((137 * (σ.1 1 8)) + 71) / 1000 * 1000) / 100 * 100) then 0 else 1)] (upA σ.1 1 (upd (σ.1 1) 8 (((137 * (σ.1 1 8)) + 71) - ((137 * (σ.1 1 8)) + 71) / 1000 * 1000)), σ.2) (some (.int r4)) σ_2 ∧ (r = some (.int r4) ∧ σ1 = σ_2)) : Rv ρ E A mX2_earnest (d + 305) c k 0 [.ref (A 1), .ref (ρ.1 2)] [] σ r σ1 := by
  intro G l hp hB hR
  refine R_aload_n dX2_earnest_0 rfl ?_
  refine R_sipush (v := 137) dX2_earnest_1 (by decide) ?_
  refine R_aload_n dX2_earnest_4 rfl ?_
  refine V_get (o := 1) (x := σ.1 1 8) hB.1 dX2_earnest_5 fm_X2_43_3 ⟨by decide, by decide, rfl, rfl⟩ rfl ?_
  refine R_imul dX2_earnest_8 ?_
  refine R_bipush (v := 71) dX2_earnest_9 (by decide) ?_
  refine R_iadd dX2_earnest_11 ?_
  refine R_sipush (v := 1000) dX2_earnest_12 (by decide) ?_
  refine R_irem dX2_earnest_15 (by decide) ?_
  refine V_put (o := 1) (σ9 := (upA σ.1 1 (upd (σ.1 1) 8 (((137 * (σ.1 1 8)) + 71) - ((137 * (σ.1 1 8)) + 71) / 1000 * 1000)), σ.2)) hB.1 dX2_earnest_16 fm_X2_43_3 ft_3_8 rfl rfl ⟨by decide, by decide, rfl, rfl⟩ rfl ?_
  refine R_aload_n dX2_earnest_19 rfl ?_
  refine R_aload_n dX2_earnest_20 rfl ?_
  refine R_aload_n dX2_earnest_21 rfl ?_
  refine V_get (o := 1) (x := ((137 * (σ.1 1 8)) + 71) - ((137 * (σ.1 1 8)) + 71) / 1000 * 1000) hB.1 dX2_earnest_22 fm_X2_43_3 ⟨by decide, by decide, rfl, rfl⟩ rfl ?_
  refine R_bipush (v := 100) dX2_earnest_25 (by decide) ?_
  refine R_irem dX2_earnest_27 (by decide) ?_
  refine R_aload_n dX2_earnest_28 rfl ?_
  refine V_rget (v := .int (rgI ρ 12)) hB dX2_earnest_29 fm_X2_104_2 rfl ?_
  have J1 : RnH [] G l mX2_earnest (d + 305) (PV ρ E A r σ1) noX 40 [.ref (A 1), .ref (ρ.1 2)] [.int (if (rgI ρ 12) ≤ ((((137 * (σ.1 1 8)) + 71) - ((137 * (σ.1 1 8)) + 71) / 1000 * 1000) - (((137 * (σ.1 1 8)) + 71) - ((137 * (σ.1 1 8)) + 71) / 1000 * 1000) / 100 * 100) then 0 else 1), .ref (ρ.1 2), .ref (A 1)] (ov rgM A (upA σ.1 1 (upd (σ.1 1) 8 (((137 * (σ.1 1 8)) + 71) - ((137 * (σ.1 1 8)) + 71) / 1000 * 1000)), σ.2) hp) c k := by
    obtain ⟨r4, σ_2, e3, h⟩ := h
    refine V_call (o := 1) [.ref (ρ.1 2), .int (if (rgI ρ 12) ≤ ((((137 * (σ.1 1 8)) + 71) - ((137 * (σ.1 1 8)) + 71) / 1000 * 1000) - (((137 * (σ.1 1 8)) + 71) - ((137 * (σ.1 1 8)) + 71) / 1000 * 1000) / 100 * 100) then 0 else 1)] hB hR dX2_earnest_40 cv_X2_107 rfl rfl (Nat.le_of_ble_eq_true rfl) ⟨by decide, rfl⟩ rfl e3 (Nat.zero_le _) (Nat.zero_le _) (fun hp hB => ?_)
    show RnH [] G l mX2_earnest (d + 305) (PV ρ E A r σ1) noX 43 [.ref (A 1), .ref (ρ.1 2)] [.int r4] (ov rgM A σ_2 hp) c k
    have hR : σ_2.2.2 0 0 = .ref (ρ.1 2) := by rw [e3.1]; exact hR
    exact R_iret dX2_earnest_43 rfl rfl ⟨h.1.symm, hp, hB, by rw [h.2]⟩
  refine R_icmp_ge 39 dX2_earnest_32 (by decide) (fun c5 => ?_) (fun c5 => ?_)
  · refine R_iconst (v := 0) dX2_earnest_39 (by decide) ?_
    simp only [if_pos c5] at J1
    first | exact J1 | (simp only [if_pos c5]; exact J1)
  · refine R_iconst (v := 1) dX2_earnest_35 (by decide) ?_
    refine R_goto 40 dX2_earnest_36 (by decide) ?_
    simp only [if_neg c5] at J1
    first | exact J1 | (simp only [if_neg c5]; exact J1)
theorem gc_X2_earnestt_0 {d : Nat} {c k : Nat} {ρ : Rho} {E : Hp → Prop} {A : Nat → Nat} {σ σ1 : Sg} {r : Option Value} (h : ∃ (r4 : Int32) (σ_2 : Sg), Tv ρ E A mX2_goOn (d + 304) 0 0 [.ref (A 8), .ref (ρ.1 2), .int (if (rgI ρ 12) ≤ ((((137 * (σ.1 8 8)) + 71) - ((137 * (σ.1 8 8)) + 71) / 1000 * 1000) - (((137 * (σ.1 8 8)) + 71) - ((137 * (σ.1 8 8)) + 71) / 1000 * 1000) / 100 * 100) then 0 else 1)] (upA σ.1 8 (upd (σ.1 8) 8 (((137 * (σ.1 8 8)) + 71) - ((137 * (σ.1 8 8)) + 71) / 1000 * 1000)), σ.2) (some (.int r4)) σ_2 ∧ (r = some (.int r4) ∧ σ1 = σ_2)) : Rv ρ E A mX2_earnest (d + 305) c k 0 [.ref (A 8), .ref (ρ.1 2)] [] σ r σ1 := by
  intro G l hp hB hR
  refine R_aload_n dX2_earnest_0 rfl ?_
  refine R_sipush (v := 137) dX2_earnest_1 (by decide) ?_
  refine R_aload_n dX2_earnest_4 rfl ?_
  refine V_get (o := 8) (x := σ.1 8 8) hB.1 dX2_earnest_5 fm_X2_43_3 ⟨by decide, by decide, rfl, rfl⟩ rfl ?_
  refine R_imul dX2_earnest_8 ?_
  refine R_bipush (v := 71) dX2_earnest_9 (by decide) ?_
  refine R_iadd dX2_earnest_11 ?_
  refine R_sipush (v := 1000) dX2_earnest_12 (by decide) ?_
  refine R_irem dX2_earnest_15 (by decide) ?_
  refine V_put (o := 8) (σ9 := (upA σ.1 8 (upd (σ.1 8) 8 (((137 * (σ.1 8 8)) + 71) - ((137 * (σ.1 8 8)) + 71) / 1000 * 1000)), σ.2)) hB.1 dX2_earnest_16 fm_X2_43_3 ft_3_8 rfl rfl ⟨by decide, by decide, rfl, rfl⟩ rfl ?_
  refine R_aload_n dX2_earnest_19 rfl ?_
  refine R_aload_n dX2_earnest_20 rfl ?_
  refine R_aload_n dX2_earnest_21 rfl ?_
  refine V_get (o := 8) (x := ((137 * (σ.1 8 8)) + 71) - ((137 * (σ.1 8 8)) + 71) / 1000 * 1000) hB.1 dX2_earnest_22 fm_X2_43_3 ⟨by decide, by decide, rfl, rfl⟩ rfl ?_
  refine R_bipush (v := 100) dX2_earnest_25 (by decide) ?_
  refine R_irem dX2_earnest_27 (by decide) ?_
  refine R_aload_n dX2_earnest_28 rfl ?_
  refine V_rget (v := .int (rgI ρ 12)) hB dX2_earnest_29 fm_X2_104_2 rfl ?_
  have J1 : RnH [] G l mX2_earnest (d + 305) (PV ρ E A r σ1) noX 40 [.ref (A 8), .ref (ρ.1 2)] [.int (if (rgI ρ 12) ≤ ((((137 * (σ.1 8 8)) + 71) - ((137 * (σ.1 8 8)) + 71) / 1000 * 1000) - (((137 * (σ.1 8 8)) + 71) - ((137 * (σ.1 8 8)) + 71) / 1000 * 1000) / 100 * 100) then 0 else 1), .ref (ρ.1 2), .ref (A 8)] (ov rgM A (upA σ.1 8 (upd (σ.1 8) 8 (((137 * (σ.1 8 8)) + 71) - ((137 * (σ.1 8 8)) + 71) / 1000 * 1000)), σ.2) hp) c k := by
    obtain ⟨r4, σ_2, e3, h⟩ := h
    refine V_call (o := 8) [.ref (ρ.1 2), .int (if (rgI ρ 12) ≤ ((((137 * (σ.1 8 8)) + 71) - ((137 * (σ.1 8 8)) + 71) / 1000 * 1000) - (((137 * (σ.1 8 8)) + 71) - ((137 * (σ.1 8 8)) + 71) / 1000 * 1000) / 100 * 100) then 0 else 1)] hB hR dX2_earnest_40 cv_X2_107 rfl rfl (Nat.le_of_ble_eq_true rfl) ⟨by decide, rfl⟩ rfl e3 (Nat.zero_le _) (Nat.zero_le _) (fun hp hB => ?_)
    show RnH [] G l mX2_earnest (d + 305) (PV ρ E A r σ1) noX 43 [.ref (A 8), .ref (ρ.1 2)] [.int r4] (ov rgM A σ_2 hp) c k
    have hR : σ_2.2.2 0 0 = .ref (ρ.1 2) := by rw [e3.1]; exact hR
    exact R_iret dX2_earnest_43 rfl rfl ⟨h.1.symm, hp, hB, by rw [h.2]⟩
  refine R_icmp_ge 39 dX2_earnest_32 (by decide) (fun c5 => ?_) (fun c5 => ?_)
  · refine R_iconst (v := 0) dX2_earnest_39 (by decide) ?_
    simp only [if_pos c5] at J1
    first | exact J1 | (simp only [if_pos c5]; exact J1)
  · refine R_iconst (v := 1) dX2_earnest_35 (by decide) ?_
    refine R_goto 40 dX2_earnest_36 (by decide) ?_
    simp only [if_neg c5] at J1
    first | exact J1 | (simp only [if_neg c5]; exact J1)
theorem gc_X0_day_0 {d : Nat} {c k : Nat} {ρ : Rho} {E E1 : Hp → Prop} {A : Nat → Nat} {σ σ1 : Sg} {r : Option Value} (h : ((¬ (σ.1 1 7) = 999) → ∃ (n4 n5 : Nat) (σ_2 : Sg), Tw ρ E E1 A mX0_keepAct (d + 305) n4 n5 [.ref (A 0)] σ none σ_2 ∧ (n4 ≤ c ∧ n5 ≤ k) ∧ (Rv ρ E1 A mX0_day (d + 306) (c - n4) (k - n5) 19 [.ref (A 0)] [] σ_2 r σ1)) ∧ (((σ.1 1 7) = 999) → r = some (.int (-1)) ∧ σ1 = σ ∧ E1 = E)) : Rw ρ E E1 A mX0_day (d + 306) c k 0 [.ref (A 0)] [] σ r σ1 := by
  intro G l hp hB hR
  refine R_aload_n dX0_day_0 rfl ?_
  refine V_geta (o := 0) (q := 1) hB.1 dX0_day_1 fm_X0_28_1 ⟨by decide, by decide, rfl, rfl⟩ ?_
  refine V_get (o := 1) (x := σ.1 1 7) hB.1 dX0_day_4 fm_X0_229_3 ⟨by decide, by decide, rfl, rfl⟩ rfl ?_
  refine R_sipush (v := 999) dX0_day_7 (by decide) ?_
  refine R_icmp_ne 15 dX0_day_10 (by decide) (fun c1 => ?_) (fun c1 => ?_)
  · replace h := h.1 c1
    refine R_aload_n dX0_day_15 rfl ?_
    obtain ⟨n4, n5, σ_2, e3, b9, h⟩ := h
    refine V_callW (o := 0) [] hB hR dX0_day_16 cv_X0_232 rfl rfl (Nat.le_of_ble_eq_true rfl) ⟨by decide, rfl⟩ rfl e3 b9.1 b9.2 (fun hp hB => ?_)
    exact h G l hp hB e3.1
  · replace h := h.2 c1
    refine R_iconst (v := (-1)) dX0_day_13 (by decide) ?_
    exact R_iret dX0_day_14 rfl rfl ⟨h.1.symm, hp, by rw [h.2.2]; exact hB, by rw [h.2.1]⟩
theorem gc_X0_day_19 {d : Nat} {c k : Nat} {ρ : Rho} {E : Hp → Prop} {A : Nat → Nat} {σ σ1 : Sg} {r : Option Value} (h : ∃ (r3 : Int32) (σ_1 : Sg), Tv ρ E A mX2_earnest (d + 305) 0 0 [.ref (A 1), .ref (ρ.1 2)] σ (some (.int r3)) σ_1 ∧ (r = some (.int r3) ∧ σ1 = σ_1)) : Rv ρ E A mX0_day (d + 306) c k 19 [.ref (A 0)] [] σ r σ1 := by
  intro G l hp hB hR
  refine R_aload_n dX0_day_19 rfl ?_
  refine V_geta (o := 0) (q := 1) hB.1 dX0_day_20 fm_X0_28_1 ⟨by decide, by decide, rfl, rfl⟩ ?_
  refine R_aload_n dX0_day_23 rfl ?_
  refine V_getr (o := 0) (v := .ref (ρ.1 2)) hB.1 dX0_day_24 fm_X0_19_1 ⟨by decide, by decide, rfl, rfl⟩ hR ?_
  obtain ⟨r3, σ_1, e2, h⟩ := h
  refine V_call (o := 1) [.ref (ρ.1 2)] hB hR dX0_day_27 cv_X0_235 rfl rfl (Nat.le_of_ble_eq_true rfl) ⟨by decide, rfl⟩ rfl e2 (Nat.zero_le _) (Nat.zero_le _) (fun hp hB => ?_)
  show RnH [] G l mX0_day (d + 306) (PV ρ E A r σ1) noX 30 [.ref (A 0)] [.int r3] (ov rgM A σ_1 hp) c k
  have hR : σ_1.2.2 0 0 = .ref (ρ.1 2) := by rw [e2.1]; exact hR
  exact R_iret dX0_day_30 rfl rfl ⟨h.1.symm, hp, hB, by rw [h.2]⟩
theorem gc_X0_out_0 {d : Nat} {v1 : Int32} {c k : Nat} {ρ : Rho} {E : Hp → Prop} {A : Nat → Nat} {σ σ1 : Sg} {r : Option Value} (h : ∃ (r3 : Int32) (σ_1 : Sg), Tv ρ E A mX0_isMan (d + 305) 0 0 [.ref (A 0), .int v1] σ (some (.int r3)) σ_1 ∧ (((r3 = 0) → r = some (.int (-1)) ∧ σ1 = σ_1) ∧ ((¬ r3 = 0) → ∃ (r7 : Int32) (σ_5 : Sg), Tv ρ E A mX0_bareBehind (d + 305) 0 0 [.ref (A 0), .int (1 <<< (v1 &&& 31))] σ_1 (some (.int r7)) σ_5 ∧ (r = some (.int r7) ∧ σ1 = σ_5)))) : Rv ρ E A mX0_out (d + 306) c k 0 [.ref (A 0), .int v1] [] σ r σ1 := by
  intro G l hp hB hR
  refine R_aload_n dX0_out_0 rfl ?_
  refine R_iload_n dX0_out_1 rfl ?_
  obtain ⟨r3, σ_1, e2, h⟩ := h
  refine V_call (o := 0) [.int v1] hB hR dX0_out_2 cv_X0_180 rfl rfl (Nat.le_of_ble_eq_true rfl) ⟨by decide, rfl⟩ rfl e2 (Nat.zero_le _) (Nat.zero_le _) (fun hp hB => ?_)
  show RnH [] G l mX0_out (d + 306) (PV ρ E A r σ1) noX 5 [.ref (A 0), .int v1] [.int r3] (ov rgM A σ_1 hp) c k
  have hR : σ_1.2.2 0 0 = .ref (ρ.1 2) := by rw [e2.1]; exact hR
  refine R_if_eq 18 dX0_out_5 (by decide) (fun c4 => ?_) (fun c4 => ?_)
  · replace h := h.1 c4
    refine R_iconst (v := (-1)) dX0_out_18 (by decide) ?_
    exact R_iret dX0_out_19 rfl rfl ⟨h.1.symm, hp, hB, by rw [h.2]⟩
  · replace h := h.2 c4
    refine R_aload_n dX0_out_8 rfl ?_
    refine R_iconst (v := 1) dX0_out_9 (by decide) ?_
    refine R_iload_n dX0_out_10 rfl ?_
    refine R_ishl dX0_out_11 ?_
    obtain ⟨r7, σ_5, e6, h⟩ := h
    refine V_call (o := 0) [.int (1 <<< (v1 &&& 31))] hB hR dX0_out_12 cv_X0_257 rfl rfl (Nat.le_of_ble_eq_true rfl) ⟨by decide, rfl⟩ rfl e6 (Nat.zero_le _) (Nat.zero_le _) (fun hp hB => ?_)
    show RnH [] G l mX0_out (d + 306) (PV ρ E A r σ1) noX 15 [.ref (A 0), .int v1] [.int r7] (ov rgM A σ_5 hp) c k
    have hR : σ_5.2.2 0 0 = .ref (ρ.1 2) := by rw [e6.1]; exact hR
    refine R_goto 19 dX0_out_15 (by decide) ?_
    exact R_iret dX0_out_19 rfl rfl ⟨h.1.symm, hp, hB, by rw [h.2]⟩
theorem gc_X0_rout_0 {d : Nat} {c k : Nat} {ρ : Rho} {E : Hp → Prop} {A : Nat → Nat} {σ σ1 : Sg} {r : Option Value} (h : ∃ (r3 : Int32) (σ_1 : Sg), Tv ρ E A mX0_bareBehind (d + 305) 0 0 [.ref (A 0), .int 63] σ (some (.int r3)) σ_1 ∧ (r = some (.int r3) ∧ σ1 = σ_1)) : Rv ρ E A mX0_rout (d + 306) c k 0 [.ref (A 0)] [] σ r σ1 := by
  intro G l hp hB hR
  refine R_aload_n dX0_rout_0 rfl ?_
  refine R_bipush (v := 63) dX0_rout_1 (by decide) ?_
  obtain ⟨r3, σ_1, e2, h⟩ := h
  refine V_call (o := 0) [.int 63] hB hR dX0_rout_3 cv_X0_257 rfl rfl (Nat.le_of_ble_eq_true rfl) ⟨by decide, rfl⟩ rfl e2 (Nat.zero_le _) (Nat.zero_le _) (fun hp hB => ?_)
  show RnH [] G l mX0_rout (d + 306) (PV ρ E A r σ1) noX 6 [.ref (A 0)] [.int r3] (ov rgM A σ_1 hp) c k
  have hR : σ_1.2.2 0 0 = .ref (ρ.1 2) := by rw [e2.1]; exact hR
  exact R_iret dX0_rout_6 rfl rfl ⟨h.1.symm, hp, hB, by rw [h.2]⟩
theorem gc_X0_will_0 {d : Nat} {v1 : Int32} {v2 : Int32} {v3 : Int32} {c k : Nat} {ρ : Rho} {E : Hp → Prop} {A : Nat → Nat} {σ σ1 : Sg} {r : Option Value} (h : ∃ (r3 : Int32) (σ_1 : Sg), Tv ρ E A mX0_isMan (d + 305) 0 0 [.ref (A 0), .int v1] σ (some (.int r3)) σ_1 ∧ (((r3 = 0) → r = some (.int (-2)) ∧ σ1 = σ_1) ∧ ((¬ r3 = 0) → (((s0_isIn v2 0 60) = 0) → r = some (.int (-2)) ∧ σ1 = σ_1) ∧ ((¬ (s0_isIn v2 0 60) = 0) → ((¬ (s0_isIn v3 0 1) = 0) → ∃ (σ_7 : Sg), Tv ρ E A mX2_of (d + 305) 0 0 [.ref (A 8), .ref (A 1)] σ_1 none σ_7 ∧ (Rv ρ E A mX0_will (d + 306) c k 44 [.ref (A 0), .int v1, .int v2, .int v3, .int 0, U_] [] σ_7 r σ1)) ∧ (((s0_isIn v3 0 1) = 0) → r = some (.int (-2)) ∧ σ1 = σ_1))))) : Rv ρ E A mX0_will (d + 306) c k 0 [.ref (A 0), .int v1, .int v2, .int v3, U_, U_] [] σ r σ1 := by
  intro G l hp hB hR
  refine R_aload_n dX0_will_0 rfl ?_
  refine R_iload_n dX0_will_1 rfl ?_
  obtain ⟨r3, σ_1, e2, h⟩ := h
  refine V_call (o := 0) [.int v1] hB hR dX0_will_2 cv_X0_180 rfl rfl (Nat.le_of_ble_eq_true rfl) ⟨by decide, rfl⟩ rfl e2 (Nat.zero_le _) (Nat.zero_le _) (fun hp hB => ?_)
  show RnH [] G l mX0_will (d + 306) (PV ρ E A r σ1) noX 5 [.ref (A 0), .int v1, .int v2, .int v3, U_, U_] [.int r3] (ov rgM A σ_1 hp) c k
  have hR : σ_1.2.2 0 0 = .ref (ρ.1 2) := by rw [e2.1]; exact hR
  refine R_if_eq 27 dX0_will_5 (by decide) (fun c4 => ?_) (fun c4 => ?_)
  · replace h := h.1 c4
    refine R_bipush (v := (-2)) dX0_will_27 (by decide) ?_
    exact R_iret dX0_will_29 rfl rfl ⟨h.1.symm, hp, hB, by rw [h.2]⟩
  · replace h := h.2 c4
    refine R_iload_n dX0_will_8 rfl ?_
    refine R_iconst (v := 0) dX0_will_9 (by decide) ?_
    refine R_bipush (v := 60) dX0_will_10 (by decide) ?_
    refine V_callS [.int v2, .int 0, .int 60] dX0_will_12 cs_X0_145 rfl rfl (Nat.le_of_ble_eq_true rfl) (s0t_isIn (d + 304) v2 0 60) ?_
    show RnH [] G l mX0_will (d + 306) (PV ρ E A r σ1) noX 15 [.ref (A 0), .int v1, .int v2, .int v3, U_, U_] [.int (s0_isIn v2 0 60)] (ov rgM A σ_1 hp) c k
    refine R_if_eq 27 dX0_will_15 (by decide) (fun c5 => ?_) (fun c5 => ?_)
    · replace h := h.1 c5
      refine R_bipush (v := (-2)) dX0_will_27 (by decide) ?_
      exact R_iret dX0_will_29 rfl rfl ⟨h.1.symm, hp, hB, by rw [h.2]⟩
    · replace h := h.2 c5
      refine R_iload_n dX0_will_18 rfl ?_
      refine R_iconst (v := 0) dX0_will_19 (by decide) ?_
      refine R_iconst (v := 1) dX0_will_20 (by decide) ?_
      refine V_callS [.int v3, .int 0, .int 1] dX0_will_21 cs_X0_145 rfl rfl (Nat.le_of_ble_eq_true rfl) (s0t_isIn (d + 304) v3 0 1) ?_
      show RnH [] G l mX0_will (d + 306) (PV ρ E A r σ1) noX 24 [.ref (A 0), .int v1, .int v2, .int v3, U_, U_] [.int (s0_isIn v3 0 1)] (ov rgM A σ_1 hp) c k
      refine R_if_ne 30 dX0_will_24 (by decide) (fun c6 => ?_) (fun c6 => ?_)
      · replace h := h.1 c6
        refine R_aload_n dX0_will_30 rfl ?_
        refine V_geta (o := 0) (q := 8) hB.1 dX0_will_31 fm_X0_32_1 ⟨by decide, by decide, rfl, rfl⟩ ?_
        refine R_aload_n dX0_will_34 rfl ?_
        refine V_geta (o := 0) (q := 1) hB.1 dX0_will_35 fm_X0_28_1 ⟨by decide, by decide, rfl, rfl⟩ ?_
        obtain ⟨σ_7, e8, h⟩ := h
        refine V_call (o := 8) [.ref (A 1)] hB hR dX0_will_38 cv_X0_118 rfl rfl (Nat.le_of_ble_eq_true rfl) ⟨by decide, rfl⟩ rfl e8 (Nat.zero_le _) (Nat.zero_le _) (fun hp hB => ?_)
        show RnH [] G l mX0_will (d + 306) (PV ρ E A r σ1) noX 41 [.ref (A 0), .int v1, .int v2, .int v3, U_, U_] [] (ov rgM A σ_7 hp) c k
        have hR : σ_7.2.2 0 0 = .ref (ρ.1 2) := by rw [e8.1]; exact hR
        refine R_iconst (v := 0) dX0_will_41 (by decide) ?_
        refine S_istore (ls1 := [.ref (A 0), .int v1, .int v2, .int v3, .int 0, U_]) dX0_will_42 (by decide) rfl rfl ?_
        exact h G l hp hB hR
      · replace h := h.2 c6
        refine R_bipush (v := (-2)) dX0_will_27 (by decide) ?_
        exact R_iret dX0_will_29 rfl rfl ⟨h.1.symm, hp, hB, by rw [h.2]⟩
theorem gc_X0_will_44 {d : Nat} {v1 : Int32} {v2 : Int32} {v3 : Int32} {v4 : Int32} {c k : Nat} {ρ : Rho} {E : Hp → Prop} {A : Nat → Nat} {σ σ1 : Sg} {r : Option Value} (h : ((v2 ≤ v4) → vp_in v1 6 ∧ (r = some (.int (σ.1 10 v1.toNatClampNeg)) ∧ σ1 = σ)) ∧ ((¬ v2 ≤ v4) → ((¬ v3 = 1) → ∃ (r6 : Int32) (σ_4 : Sg), Tv ρ E A mX2_goOn (d + 305) 0 0 [.ref (A 8), .ref (ρ.1 2), .int 0] σ (some (.int r6)) σ_4 ∧ (Rv ρ E A mX0_will (d + 306) c k 44 [.ref (A 0), .int v1, .int v2, .int v3, .int (v4 + 1), U_] [] σ_4 r σ1)) ∧ ((v3 = 1) → ∃ (r9 : Int32) (σ_7 : Sg), Tv ρ E A mX2_earnest (d + 305) 0 0 [.ref (A 8), .ref (ρ.1 2)] σ (some (.int r9)) σ_7 ∧ (Rv ρ E A mX0_will (d + 306) c k 44 [.ref (A 0), .int v1, .int v2, .int v3, .int (v4 + 1), U_] [] σ_7 r σ1)))) : Rv ρ E A mX0_will (d + 306) c k 44 [.ref (A 0), .int v1, .int v2, .int v3, .int v4, U_] [] σ r σ1 := by
  intro G l hp hB hR
  refine R_iload dX0_will_44 rfl ?_
  refine R_iload_n dX0_will_46 rfl ?_
  refine R_icmp_ge 89 dX0_will_47 (by decide) (fun c1 => ?_) (fun c1 => ?_)
  · replace h := h.1 c1
    refine R_aload_n dX0_will_89 rfl ?_
    refine V_geta (o := 0) (q := 8) hB.1 dX0_will_90 fm_X0_32_1 ⟨by decide, by decide, rfl, rfl⟩ ?_
    refine V_geta (o := 8) (q := 10) hB.1 dX0_will_93 fm_X0_198_3 ⟨by decide, by decide, rfl, rfl⟩ ?_
    refine R_iload_n dX0_will_96 rfl ?_
    have b2 := h.1
    replace h := h.2
    refine V_iald (o := 10) (x := σ.1 10 v1.toNatClampNeg) hB.1 dX0_will_97 ⟨by decide, rfl⟩ b2 rfl ?_
    exact R_iret dX0_will_98 rfl rfl ⟨h.1.symm, hp, hB, by rw [h.2]⟩
  · replace h := h.2 c1
    refine R_iload_n dX0_will_50 rfl ?_
    refine R_iconst (v := 1) dX0_will_51 (by decide) ?_
    refine R_icmp_ne 69 dX0_will_52 (by decide) (fun c3 => ?_) (fun c3 => ?_)
    · replace h := h.1 c3
      refine R_aload_n dX0_will_69 rfl ?_
      refine V_geta (o := 0) (q := 8) hB.1 dX0_will_70 fm_X0_32_1 ⟨by decide, by decide, rfl, rfl⟩ ?_
      refine R_aload_n dX0_will_73 rfl ?_
      refine V_getr (o := 0) (v := .ref (ρ.1 2)) hB.1 dX0_will_74 fm_X0_19_1 ⟨by decide, by decide, rfl, rfl⟩ hR ?_
      refine R_iconst (v := 0) dX0_will_77 (by decide) ?_
      obtain ⟨r6, σ_4, e5, h⟩ := h
      refine V_call (o := 8) [.ref (ρ.1 2), .int 0] hB hR dX0_will_78 cv_X0_250 rfl rfl (Nat.le_of_ble_eq_true rfl) ⟨by decide, rfl⟩ rfl e5 (Nat.zero_le _) (Nat.zero_le _) (fun hp hB => ?_)
      show RnH [] G l mX0_will (d + 306) (PV ρ E A r σ1) noX 81 [.ref (A 0), .int v1, .int v2, .int v3, .int v4, U_] [.int r6] (ov rgM A σ_4 hp) c k
      have hR : σ_4.2.2 0 0 = .ref (ρ.1 2) := by rw [e5.1]; exact hR
      refine S_istore (ls1 := [.ref (A 0), .int v1, .int v2, .int v3, .int v4, .int r6]) dX0_will_81 (by decide) rfl rfl ?_
      refine S_iinc (v := v4 + 1) (ls1 := [.ref (A 0), .int v1, .int v2, .int v3, .int (v4 + 1), .int r6]) dX0_will_83 rfl rfl (by decide) rfl rfl ?_
      refine R_goto 44 dX0_will_86 (by decide) ?_
      refine R_drop 5 ?_
      exact h G l hp hB hR
    · replace h := h.2 c3
      refine R_aload_n dX0_will_55 rfl ?_
      refine V_geta (o := 0) (q := 8) hB.1 dX0_will_56 fm_X0_32_1 ⟨by decide, by decide, rfl, rfl⟩ ?_
      refine R_aload_n dX0_will_59 rfl ?_
      refine V_getr (o := 0) (v := .ref (ρ.1 2)) hB.1 dX0_will_60 fm_X0_19_1 ⟨by decide, by decide, rfl, rfl⟩ hR ?_
      obtain ⟨r9, σ_7, e8, h⟩ := h
      refine V_call (o := 8) [.ref (ρ.1 2)] hB hR dX0_will_63 cv_X0_235 rfl rfl (Nat.le_of_ble_eq_true rfl) ⟨by decide, rfl⟩ rfl e8 (Nat.zero_le _) (Nat.zero_le _) (fun hp hB => ?_)
      show RnH [] G l mX0_will (d + 306) (PV ρ E A r σ1) noX 66 [.ref (A 0), .int v1, .int v2, .int v3, .int v4, U_] [.int r9] (ov rgM A σ_7 hp) c k
      have hR : σ_7.2.2 0 0 = .ref (ρ.1 2) := by rw [e8.1]; exact hR
      refine R_goto 81 dX0_will_66 (by decide) ?_
      refine S_istore (ls1 := [.ref (A 0), .int v1, .int v2, .int v3, .int v4, .int r9]) dX0_will_81 (by decide) rfl rfl ?_
      refine S_iinc (v := v4 + 1) (ls1 := [.ref (A 0), .int v1, .int v2, .int v3, .int (v4 + 1), .int r9]) dX0_will_83 rfl rfl (by decide) rfl rfl ?_
      refine R_goto 44 dX0_will_86 (by decide) ?_
      refine R_drop 5 ?_
      exact h G l hp hB hR
