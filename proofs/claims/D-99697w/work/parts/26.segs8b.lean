/-! printed: segments of the twin's methods -/
set_option maxRecDepth 100000
theorem g8_cloth_30 {d : Nat} {v1 : Int32} {v2 : Int32} {σ σ1 : S8} {r : Option Value} (h : ((v1 < v2) → Rn8 mX8_cloth (d + 3) 9 [.int (v1 + 1), U_] (fun T => []) σ r σ1) ∧ ((¬ v1 < v2) → ((¬ (v2 &&& (v1 ^^^ (-1))) = 0) → Rn8 mX8_cloth (d + 3) 30 [.int v1, .int (v2 + 1)] (fun T => []) σ r σ1) ∧ (((v2 &&& (v1 ^^^ (-1))) = 0) → vp_in v1 64 ∧ (∃ (r6 : Int32) (σ_4 : S8), Tw8 mX8_rowOf (d + 2) [.int v2] σ (some (.int r6)) σ_4 ∧ (vp_in (v1 &&& (v2 ^^^ (-1))) 64 ∧ (Rn8 mX8_cloth (d + 3) 30 [.int v1, .int (v2 + 1)] (fun T => []) (σ_4.1, upA σ_4.2.1 68 (upd (σ_4.2.1 68) v1.toNatClampNeg (s8_lesser (σ.2.1 68 v1.toNatClampNeg) (r6 + (σ_4.2.1 68 (v1 &&& (v2 ^^^ (-1))).toNatClampNeg)))), σ_4.2.2.1, σ_4.2.2.2) r σ1)))))) : Rn8 mX8_cloth (d + 3) 30 [.int v1, .int v2] (fun T => []) σ r σ1 := by
  intro G l T hp hK hT
  refine R_iload_n dX8_cloth_30 rfl ?_
  refine R_iload_n dX8_cloth_31 rfl ?_
  refine R_icmp_gt 80 dX8_cloth_32 (by decide) (fun c1 => ?_) (fun c1 => ?_)
  · replace h := h.1 c1
    refine S_iinc (v := v1 + 1) (ls1 := .ref T :: [.int (v1 + 1), .int v2]) dX8_cloth_80 rfl rfl (by decide) rfl rfl ?_
    refine R_goto 9 dX8_cloth_83 (by decide) ?_
    refine R_drop 2 ?_
    exact h G l T hp hK hT
  · replace h := h.2 c1
    refine R_iload_n dX8_cloth_35 rfl ?_
    refine R_iload_n dX8_cloth_36 rfl ?_
    refine R_iconst (v := (-1)) dX8_cloth_37 (by decide) ?_
    refine R_ixor dX8_cloth_38 ?_
    refine R_iand dX8_cloth_39 ?_
    refine R_if_ne 74 dX8_cloth_40 (by decide) (fun c2 => ?_) (fun c2 => ?_)
    · replace h := h.1 c2
      refine S_iinc (v := v2 + 1) (ls1 := .ref T :: [.int v1, .int (v2 + 1)]) dX8_cloth_74 rfl rfl (by decide) rfl rfl ?_
      refine R_goto 30 dX8_cloth_77 (by decide) ?_
      exact h G l T hp hK hT
    · replace h := h.2 c2
      refine R_aload_n dX8_cloth_43 rfl ?_
      refine T8_geta hT dX8_cloth_44 fl8_111 ⟨by decide, by decide, by decide⟩ ?_
      refine R_iload_n dX8_cloth_47 rfl ?_
      refine R_aload_n dX8_cloth_48 rfl ?_
      refine T8_geta hT dX8_cloth_49 fl8_111 ⟨by decide, by decide, by decide⟩ ?_
      refine R_iload_n dX8_cloth_52 rfl ?_
      have b3 := h.1
      replace h := h.2
      refine T8_iald (x := σ.2.1 68 v1.toNatClampNeg) hT dX8_cloth_53 ⟨by decide, rfl⟩ b3 rfl ?_
      refine R_aload_n dX8_cloth_54 rfl ?_
      refine R_iload_n dX8_cloth_55 rfl ?_
      obtain ⟨r6, σ_4, e5, h⟩ := h
      refine T8_call [.int v2] hK hT dX8_cloth_56 cv8_499 rfl rfl rfl (Nat.le_of_ble_eq_true rfl) e5 ?_
      show RnH [] G l mX8_cloth (d + 3) (fun v hp1 => v = r ∧ hp1 = tw T σ1 hp) noX 59 (.ref T :: [.int v1, .int v2]) [.int r6, .int (σ.2.1 68 v1.toNatClampNeg), .int v1, .ref (a8 T 68)] (tw T σ_4 hp) 0 0
      refine R_aload_n dX8_cloth_59 rfl ?_
      refine T8_geta hT dX8_cloth_60 fl8_111 ⟨by decide, by decide, by decide⟩ ?_
      refine R_iload_n dX8_cloth_63 rfl ?_
      refine R_iload_n dX8_cloth_64 rfl ?_
      refine R_iconst (v := (-1)) dX8_cloth_65 (by decide) ?_
      refine R_ixor dX8_cloth_66 ?_
      refine R_iand dX8_cloth_67 ?_
      have b7 := h.1
      replace h := h.2
      refine T8_iald (x := σ_4.2.1 68 (v1 &&& (v2 ^^^ (-1))).toNatClampNeg) hT dX8_cloth_68 ⟨by decide, rfl⟩ b7 rfl ?_
      refine R_iadd dX8_cloth_69 ?_
      refine T8_callS [.int (σ.2.1 68 v1.toNatClampNeg), .int (r6 + (σ_4.2.1 68 (v1 &&& (v2 ^^^ (-1))).toNatClampNeg))] dX8_cloth_70 cs8_431 rfl rfl (Nat.le_of_ble_eq_true rfl) (st8_lesser (d + 1) (σ.2.1 68 v1.toNatClampNeg) (r6 + (σ_4.2.1 68 (v1 &&& (v2 ^^^ (-1))).toNatClampNeg))) ?_
      show RnH [] G l mX8_cloth (d + 3) (fun v hp1 => v = r ∧ hp1 = tw T σ1 hp) noX 73 (.ref T :: [.int v1, .int v2]) [.int (s8_lesser (σ.2.1 68 v1.toNatClampNeg) (r6 + (σ_4.2.1 68 (v1 &&& (v2 ^^^ (-1))).toNatClampNeg))), .int v1, .ref (a8 T 68)] (tw T σ_4 hp) 0 0
      refine T8_iast (σ9 := (σ_4.1, upA σ_4.2.1 68 (upd (σ_4.2.1 68) v1.toNatClampNeg (s8_lesser (σ.2.1 68 v1.toNatClampNeg) (r6 + (σ_4.2.1 68 (v1 &&& (v2 ^^^ (-1))).toNatClampNeg)))), σ_4.2.2.1, σ_4.2.2.2)) hK hT dX8_cloth_73 ⟨by decide, rfl⟩ b3 rfl ?_
      refine S_iinc (v := v2 + 1) (ls1 := .ref T :: [.int v1, .int (v2 + 1)]) dX8_cloth_74 rfl rfl (by decide) rfl rfl ?_
      refine R_goto 30 dX8_cloth_77 (by decide) ?_
      exact h G l T hp hK hT
theorem g8_coat_0 {d : Nat} {v1 : Int32} {v2 : Int32} {σ σ1 : S8} {r : Option Value} (h : ∃ (r3 : Int32) (σ_1 : S8), Tw8 mX8_isCoat (d + 2) [.int v1] σ (some (.int r3)) σ_1 ∧ (((¬ r3 = 0) → ∃ σ_5 : S8, Tw8 mX8_fill (d + 2) [] σ_1 none σ_5 ∧ (((v2.toInt < 0 ∨ 5 < v2.toInt) → r = some (.int (-2)) ∧ σ1 = σ_5) ∧ (v2 = 0 → vp_in (12 + v1) 39 ∧ (r = some (.int (σ_5.2.1 60 (12 + v1).toNatClampNeg)) ∧ σ1 = σ_5)) ∧ (v2 = 1 → vp_in (18 + v1) 39 ∧ (r = some (.int (σ_5.2.1 60 (18 + v1).toNatClampNeg)) ∧ σ1 = σ_5)) ∧ (v2 = 2 → vp_in (24 + v1) 39 ∧ (r = some (.int (σ_5.2.1 60 (24 + v1).toNatClampNeg)) ∧ σ1 = σ_5)) ∧ (v2 = 3 → vp_in (30 + v1) 39 ∧ (r = some (.int (σ_5.2.1 60 (30 + v1).toNatClampNeg)) ∧ σ1 = σ_5)) ∧ (v2 = 4 → r = some (.int (((σ_5.2.1 60 36) >>> (v1 &&& 31)) &&& 1)) ∧ σ1 = σ_5) ∧ (v2 = 5 → ∃ (r13 : Int32) (σ_11 : S8), Tw8 mX8_wearer (d + 2) [.int v1] σ_5 (some (.int r13)) σ_11 ∧ (r = some (.int r13) ∧ σ1 = σ_11)))) ∧ ((r3 = 0) → r = some (.int (-2)) ∧ σ1 = σ_1))) : Rn8 mX8_coat (d + 3) 0 [.int v1, .int v2] (fun T => []) σ r σ1 := by
  intro G l T hp hK hT
  refine R_aload_n dX8_coat_0 rfl ?_
  refine R_iload_n dX8_coat_1 rfl ?_
  obtain ⟨r3, σ_1, e2, h⟩ := h
  refine T8_call [.int v1] hK hT dX8_coat_2 cv8_455 rfl rfl rfl (Nat.le_of_ble_eq_true rfl) e2 ?_
  show RnH [] G l mX8_coat (d + 3) (fun v hp1 => v = r ∧ hp1 = tw T σ1 hp) noX 5 (.ref T :: [.int v1, .int v2]) [.int r3] (tw T σ_1 hp) 0 0
  refine R_if_ne 11 dX8_coat_5 (by decide) (fun c4 => ?_) (fun c4 => ?_)
  · replace h := h.1 c4
    refine R_aload_n dX8_coat_11 rfl ?_
    obtain ⟨σ_5, e6, h⟩ := h
    refine T8_call [] hK hT dX8_coat_12 cv8_449 rfl rfl rfl (Nat.le_of_ble_eq_true rfl) e6 ?_
    show RnH [] G l mX8_coat (d + 3) (fun v hp1 => v = r ∧ hp1 = tw T σ1 hp) noX 15 (.ref T :: [.int v1, .int v2]) [] (tw T σ_5 hp) 0 0
    refine R_iload_n dX8_coat_15 rfl ?_
    by_cases hlo : v2.toInt < 0 ∨ 5 < v2.toInt
    · replace h := h.1 hlo
      refine R_tabOut 114 dX8_coat_16 hlo (by decide) ?_
      refine R_bipush (v := (-2)) dX8_coat_114 (by decide) ?_
      exact R_iret dX8_coat_116 rfl rfl ⟨h.1.symm, by rw [h.2]⟩
    · replace h := h.2
      rcases (show v2.toInt = 0 ∨ v2.toInt = 1 ∨ v2.toInt = 2 ∨ v2.toInt = 3 ∨ v2.toInt = 4 ∨ v2.toInt = 5 by omega) with e9 | e9 | e9 | e9 | e9 | e9
      · replace e9 : v2 = 0 := Int32.toInt_inj.mp (e9.trans (by decide))
        replace h := h.1 e9
        subst e9
        refine R_tabIn 56 dX8_coat_16 (by decide) (by decide) rfl (by decide) ?_
        refine R_aload_n dX8_coat_56 rfl ?_
        refine T8_geta hT dX8_coat_57 fl8_96 ⟨by decide, by decide, by decide⟩ ?_
        refine R_bipush (v := 12) dX8_coat_60 (by decide) ?_
        refine R_iload_n dX8_coat_62 rfl ?_
        refine R_iadd dX8_coat_63 ?_
        have b7 := h.1
        replace h := h.2
        refine T8_iald (x := σ_5.2.1 60 (12 + v1).toNatClampNeg) hT dX8_coat_64 ⟨by decide, rfl⟩ b7 rfl ?_
        exact R_iret dX8_coat_65 rfl rfl ⟨h.1.symm, by rw [h.2]⟩
      · replace e9 : v2 = 1 := Int32.toInt_inj.mp (e9.trans (by decide))
        replace h := h.2.1 e9
        subst e9
        refine R_tabIn 66 dX8_coat_16 (by decide) (by decide) rfl (by decide) ?_
        refine R_aload_n dX8_coat_66 rfl ?_
        refine T8_geta hT dX8_coat_67 fl8_96 ⟨by decide, by decide, by decide⟩ ?_
        refine R_bipush (v := 18) dX8_coat_70 (by decide) ?_
        refine R_iload_n dX8_coat_72 rfl ?_
        refine R_iadd dX8_coat_73 ?_
        have b8 := h.1
        replace h := h.2
        refine T8_iald (x := σ_5.2.1 60 (18 + v1).toNatClampNeg) hT dX8_coat_74 ⟨by decide, rfl⟩ b8 rfl ?_
        exact R_iret dX8_coat_75 rfl rfl ⟨h.1.symm, by rw [h.2]⟩
      · replace e9 : v2 = 2 := Int32.toInt_inj.mp (e9.trans (by decide))
        replace h := h.2.2.1 e9
        subst e9
        refine R_tabIn 76 dX8_coat_16 (by decide) (by decide) rfl (by decide) ?_
        refine R_aload_n dX8_coat_76 rfl ?_
        refine T8_geta hT dX8_coat_77 fl8_96 ⟨by decide, by decide, by decide⟩ ?_
        refine R_bipush (v := 24) dX8_coat_80 (by decide) ?_
        refine R_iload_n dX8_coat_82 rfl ?_
        refine R_iadd dX8_coat_83 ?_
        have b9 := h.1
        replace h := h.2
        refine T8_iald (x := σ_5.2.1 60 (24 + v1).toNatClampNeg) hT dX8_coat_84 ⟨by decide, rfl⟩ b9 rfl ?_
        exact R_iret dX8_coat_85 rfl rfl ⟨h.1.symm, by rw [h.2]⟩
      · replace e9 : v2 = 3 := Int32.toInt_inj.mp (e9.trans (by decide))
        replace h := h.2.2.2.1 e9
        subst e9
        refine R_tabIn 86 dX8_coat_16 (by decide) (by decide) rfl (by decide) ?_
        refine R_aload_n dX8_coat_86 rfl ?_
        refine T8_geta hT dX8_coat_87 fl8_96 ⟨by decide, by decide, by decide⟩ ?_
        refine R_bipush (v := 30) dX8_coat_90 (by decide) ?_
        refine R_iload_n dX8_coat_92 rfl ?_
        refine R_iadd dX8_coat_93 ?_
        have b10 := h.1
        replace h := h.2
        refine T8_iald (x := σ_5.2.1 60 (30 + v1).toNatClampNeg) hT dX8_coat_94 ⟨by decide, rfl⟩ b10 rfl ?_
        exact R_iret dX8_coat_95 rfl rfl ⟨h.1.symm, by rw [h.2]⟩
      · replace e9 : v2 = 4 := Int32.toInt_inj.mp (e9.trans (by decide))
        replace h := h.2.2.2.2.1 e9
        subst e9
        refine R_tabIn 96 dX8_coat_16 (by decide) (by decide) rfl (by decide) ?_
        refine R_aload_n dX8_coat_96 rfl ?_
        refine T8_geta hT dX8_coat_97 fl8_96 ⟨by decide, by decide, by decide⟩ ?_
        refine R_bipush (v := 36) dX8_coat_100 (by decide) ?_
        refine T8_iald (x := σ_5.2.1 60 36) hT dX8_coat_102 ⟨by decide, rfl⟩ (by unfold vp_in; decide) rfl ?_
        refine R_iload_n dX8_coat_103 rfl ?_
        refine R_ishr dX8_coat_104 ?_
        refine R_iconst (v := 1) dX8_coat_105 (by decide) ?_
        refine R_iand dX8_coat_106 ?_
        exact R_iret dX8_coat_107 rfl rfl ⟨h.1.symm, by rw [h.2]⟩
      · replace e9 : v2 = 5 := Int32.toInt_inj.mp (e9.trans (by decide))
        replace h := h.2.2.2.2.2 e9
        subst e9
        refine R_tabIn 108 dX8_coat_16 (by decide) (by decide) rfl (by decide) ?_
        refine R_aload_n dX8_coat_108 rfl ?_
        refine R_iload_n dX8_coat_109 rfl ?_
        obtain ⟨r13, σ_11, e12, h⟩ := h
        refine T8_call [.int v1] hK hT dX8_coat_110 cv8_434 rfl rfl rfl (Nat.le_of_ble_eq_true rfl) e12 ?_
        show RnH [] G l mX8_coat (d + 3) (fun v hp1 => v = r ∧ hp1 = tw T σ1 hp) noX 113 (.ref T :: [.int v1, .int 5]) [.int r13] (tw T σ_11 hp) 0 0
        exact R_iret dX8_coat_113 rfl rfl ⟨h.1.symm, by rw [h.2]⟩
  · replace h := h.2 c4
    refine R_bipush (v := (-2)) dX8_coat_8 (by decide) ?_
    exact R_iret dX8_coat_10 rfl rfl ⟨h.1.symm, by rw [h.2]⟩
theorem g8_doff_0 {d : Nat} {v1 : Int32} {σ σ1 : S8} {r : Option Value} (h : ∃ (r3 : Int32) (σ_1 : S8), Tw8 mX8_isMan (d + 2) [.int v1] σ (some (.int r3)) σ_1 ∧ (((r3 = 0) → r = some (.int (-1)) ∧ σ1 = σ_1) ∧ ((¬ r3 = 0) → vp_in (6 + v1) 39 ∧ (((0 ≤ (σ_1.2.1 59 (6 + v1).toNatClampNeg)) → ∃ σ_7 : S8, Tw8 mX8_act (d + 2) [] σ_1 none σ_7 ∧ (r = some (.int (σ_7.2.1 59 (6 + v1).toNatClampNeg)) ∧ σ1 = (σ_7.1, upA σ_7.2.1 59 (upd (σ_7.2.1 59) (6 + v1).toNatClampNeg (-1)), σ_7.2.2.1, σ_7.2.2.2))) ∧ ((¬ 0 ≤ (σ_1.2.1 59 (6 + v1).toNatClampNeg)) → r = some (.int (-1)) ∧ σ1 = σ_1))))) : Rn8 mX8_doff (d + 3) 0 [.int v1, U_] (fun T => []) σ r σ1 := by
  intro G l T hp hK hT
  refine R_aload_n dX8_doff_0 rfl ?_
  refine R_iload_n dX8_doff_1 rfl ?_
  obtain ⟨r3, σ_1, e2, h⟩ := h
  refine T8_call [.int v1] hK hT dX8_doff_2 cv8_446 rfl rfl rfl (Nat.le_of_ble_eq_true rfl) e2 ?_
  show RnH [] G l mX8_doff (d + 3) (fun v hp1 => v = r ∧ hp1 = tw T σ1 hp) noX 5 (.ref T :: [.int v1, U_]) [.int r3] (tw T σ_1 hp) 0 0
  refine R_if_eq 20 dX8_doff_5 (by decide) (fun c4 => ?_) (fun c4 => ?_)
  · replace h := h.1 c4
    refine R_iconst (v := (-1)) dX8_doff_20 (by decide) ?_
    exact R_iret dX8_doff_21 rfl rfl ⟨h.1.symm, by rw [h.2]⟩
  · replace h := h.2 c4
    refine R_aload_n dX8_doff_8 rfl ?_
    refine T8_geta hT dX8_doff_9 fl8_93 ⟨by decide, by decide, by decide⟩ ?_
    refine R_bipush (v := 6) dX8_doff_12 (by decide) ?_
    refine R_iload_n dX8_doff_14 rfl ?_
    refine R_iadd dX8_doff_15 ?_
    have b5 := h.1
    replace h := h.2
    refine T8_iald (x := σ_1.2.1 59 (6 + v1).toNatClampNeg) hT dX8_doff_16 ⟨by decide, rfl⟩ b5 rfl ?_
    refine R_if_ge 22 dX8_doff_17 (by decide) (fun c6 => ?_) (fun c6 => ?_)
    · replace h := h.1 c6
      refine R_aload_n dX8_doff_22 rfl ?_
      obtain ⟨σ_7, e8, h⟩ := h
      refine T8_call [] hK hT dX8_doff_23 cv8_458 rfl rfl rfl (Nat.le_of_ble_eq_true rfl) e8 ?_
      show RnH [] G l mX8_doff (d + 3) (fun v hp1 => v = r ∧ hp1 = tw T σ1 hp) noX 26 (.ref T :: [.int v1, U_]) [] (tw T σ_7 hp) 0 0
      refine R_aload_n dX8_doff_26 rfl ?_
      refine T8_geta hT dX8_doff_27 fl8_93 ⟨by decide, by decide, by decide⟩ ?_
      refine R_bipush (v := 6) dX8_doff_30 (by decide) ?_
      refine R_iload_n dX8_doff_32 rfl ?_
      refine R_iadd dX8_doff_33 ?_
      refine T8_iald (x := σ_7.2.1 59 (6 + v1).toNatClampNeg) hT dX8_doff_34 ⟨by decide, rfl⟩ b5 rfl ?_
      refine S_istore_n (ls1 := .ref T :: [.int v1, .int (σ_7.2.1 59 (6 + v1).toNatClampNeg)]) dX8_doff_35 (by decide) rfl rfl ?_
      refine R_aload_n dX8_doff_36 rfl ?_
      refine T8_geta hT dX8_doff_37 fl8_93 ⟨by decide, by decide, by decide⟩ ?_
      refine R_bipush (v := 6) dX8_doff_40 (by decide) ?_
      refine R_iload_n dX8_doff_42 rfl ?_
      refine R_iadd dX8_doff_43 ?_
      refine R_iconst (v := (-1)) dX8_doff_44 (by decide) ?_
      refine T8_iast (σ9 := (σ_7.1, upA σ_7.2.1 59 (upd (σ_7.2.1 59) (6 + v1).toNatClampNeg (-1)), σ_7.2.2.1, σ_7.2.2.2)) hK hT dX8_doff_45 ⟨by decide, rfl⟩ b5 rfl ?_
      refine R_iload_n dX8_doff_46 rfl ?_
      exact R_iret dX8_doff_47 rfl rfl ⟨h.1.symm, by rw [h.2]⟩
    · replace h := h.2 c6
      refine R_iconst (v := (-1)) dX8_doff_20 (by decide) ?_
      exact R_iret dX8_doff_21 rfl rfl ⟨h.1.symm, by rw [h.2]⟩
theorem g8_don_0 {d : Nat} {v1 : Int32} {v2 : Int32} {σ σ1 : S8} {r : Option Value} (h : ∃ σ_1 : S8, Tw8 mX8_fill (d + 2) [] σ none σ_1 ∧ (∃ (r5 : Int32) (σ_3 : S8), Tw8 mX8_isMan (d + 2) [.int v1] σ_1 (some (.int r5)) σ_3 ∧ (((r5 = 0) → r = some (.int (-2)) ∧ σ1 = σ_3) ∧ ((¬ r5 = 0) → ∃ (r9 : Int32) (σ_7 : S8), Tw8 mX8_isCoat (d + 2) [.int v2] σ_3 (some (.int r9)) σ_7 ∧ (((r9 = 0) → r = some (.int (-2)) ∧ σ1 = σ_7) ∧ ((¬ r9 = 0) → ∃ (r13 : Int32) (σ_11 : S8), Tw8 mX8_wearer (d + 2) [.int v2] σ_7 (some (.int r13)) σ_11 ∧ (((r13 < 0) → ∃ σ_15 : S8, Tw8 mX8_act (d + 2) [] σ_11 none σ_15 ∧ (vp_in (6 + v1) 39 ∧ (r = some (.int (σ_15.2.1 59 (6 + v1).toNatClampNeg)) ∧ σ1 = (σ_15.1, upA σ_15.2.1 59 (upd (σ_15.2.1 59) (6 + v1).toNatClampNeg v2), σ_15.2.2.1, σ_15.2.2.2)))) ∧ ((¬ r13 < 0) → r = some (.int (-2)) ∧ σ1 = σ_11)))))))) : Rn8 mX8_don (d + 3) 0 [.int v1, .int v2, U_] (fun T => []) σ r σ1 := by
  intro G l T hp hK hT
  refine R_aload_n dX8_don_0 rfl ?_
  obtain ⟨σ_1, e2, h⟩ := h
  refine T8_call [] hK hT dX8_don_1 cv8_449 rfl rfl rfl (Nat.le_of_ble_eq_true rfl) e2 ?_
  show RnH [] G l mX8_don (d + 3) (fun v hp1 => v = r ∧ hp1 = tw T σ1 hp) noX 4 (.ref T :: [.int v1, .int v2, U_]) [] (tw T σ_1 hp) 0 0
  refine R_aload_n dX8_don_4 rfl ?_
  refine R_iload_n dX8_don_5 rfl ?_
  obtain ⟨r5, σ_3, e4, h⟩ := h
  refine T8_call [.int v1] hK hT dX8_don_6 cv8_446 rfl rfl rfl (Nat.le_of_ble_eq_true rfl) e4 ?_
  show RnH [] G l mX8_don (d + 3) (fun v hp1 => v = r ∧ hp1 = tw T σ1 hp) noX 9 (.ref T :: [.int v1, .int v2, U_]) [.int r5] (tw T σ_3 hp) 0 0
  refine R_if_eq 28 dX8_don_9 (by decide) (fun c6 => ?_) (fun c6 => ?_)
  · replace h := h.1 c6
    refine R_bipush (v := (-2)) dX8_don_28 (by decide) ?_
    exact R_iret dX8_don_30 rfl rfl ⟨h.1.symm, by rw [h.2]⟩
  · replace h := h.2 c6
    refine R_aload_n dX8_don_12 rfl ?_
    refine R_iload_n dX8_don_13 rfl ?_
    obtain ⟨r9, σ_7, e8, h⟩ := h
    refine T8_call [.int v2] hK hT dX8_don_14 cv8_455 rfl rfl rfl (Nat.le_of_ble_eq_true rfl) e8 ?_
    show RnH [] G l mX8_don (d + 3) (fun v hp1 => v = r ∧ hp1 = tw T σ1 hp) noX 17 (.ref T :: [.int v1, .int v2, U_]) [.int r9] (tw T σ_7 hp) 0 0
    refine R_if_eq 28 dX8_don_17 (by decide) (fun c10 => ?_) (fun c10 => ?_)
    · replace h := h.1 c10
      refine R_bipush (v := (-2)) dX8_don_28 (by decide) ?_
      exact R_iret dX8_don_30 rfl rfl ⟨h.1.symm, by rw [h.2]⟩
    · replace h := h.2 c10
      refine R_aload_n dX8_don_20 rfl ?_
      refine R_iload_n dX8_don_21 rfl ?_
      obtain ⟨r13, σ_11, e12, h⟩ := h
      refine T8_call [.int v2] hK hT dX8_don_22 cv8_434 rfl rfl rfl (Nat.le_of_ble_eq_true rfl) e12 ?_
      show RnH [] G l mX8_don (d + 3) (fun v hp1 => v = r ∧ hp1 = tw T σ1 hp) noX 25 (.ref T :: [.int v1, .int v2, U_]) [.int r13] (tw T σ_11 hp) 0 0
      refine R_if_lt 31 dX8_don_25 (by decide) (fun c14 => ?_) (fun c14 => ?_)
      · replace h := h.1 c14
        refine R_aload_n dX8_don_31 rfl ?_
        obtain ⟨σ_15, e16, h⟩ := h
        refine T8_call [] hK hT dX8_don_32 cv8_458 rfl rfl rfl (Nat.le_of_ble_eq_true rfl) e16 ?_
        show RnH [] G l mX8_don (d + 3) (fun v hp1 => v = r ∧ hp1 = tw T σ1 hp) noX 35 (.ref T :: [.int v1, .int v2, U_]) [] (tw T σ_15 hp) 0 0
        refine R_aload_n dX8_don_35 rfl ?_
        refine T8_geta hT dX8_don_36 fl8_93 ⟨by decide, by decide, by decide⟩ ?_
        refine R_bipush (v := 6) dX8_don_39 (by decide) ?_
        refine R_iload_n dX8_don_41 rfl ?_
        refine R_iadd dX8_don_42 ?_
        have b17 := h.1
        replace h := h.2
        refine T8_iald (x := σ_15.2.1 59 (6 + v1).toNatClampNeg) hT dX8_don_43 ⟨by decide, rfl⟩ b17 rfl ?_
        refine S_istore_n (ls1 := .ref T :: [.int v1, .int v2, .int (σ_15.2.1 59 (6 + v1).toNatClampNeg)]) dX8_don_44 (by decide) rfl rfl ?_
        refine R_aload_n dX8_don_45 rfl ?_
        refine T8_geta hT dX8_don_46 fl8_93 ⟨by decide, by decide, by decide⟩ ?_
        refine R_bipush (v := 6) dX8_don_49 (by decide) ?_
        refine R_iload_n dX8_don_51 rfl ?_
        refine R_iadd dX8_don_52 ?_
        refine R_iload_n dX8_don_53 rfl ?_
        refine T8_iast (σ9 := (σ_15.1, upA σ_15.2.1 59 (upd (σ_15.2.1 59) (6 + v1).toNatClampNeg v2), σ_15.2.2.1, σ_15.2.2.2)) hK hT dX8_don_54 ⟨by decide, rfl⟩ b17 rfl ?_
        refine R_iload_n dX8_don_55 rfl ?_
        exact R_iret dX8_don_56 rfl rfl ⟨h.1.symm, by rw [h.2]⟩
      · replace h := h.2 c14
        refine R_bipush (v := (-2)) dX8_don_28 (by decide) ?_
        exact R_iret dX8_don_30 rfl rfl ⟨h.1.symm, by rw [h.2]⟩
theorem g8_front_0 {d : Nat} {v1 : Int32} {v2 : Int32} {σ σ1 : S8} {r : Option Value} (h : (((s8_isIn v1 0 999) = 0) → r = some (.int (-1)) ∧ σ1 = σ) ∧ ((¬ (s8_isIn v1 0 999) = 0) → ((¬ (s8_isIn v2 0 1) = 0) → ∃ σ_3 : S8, Tw8 mX8_fill (d + 2) [] σ none σ_3 ∧ (∃ (r7 : Int32) (σ_5 : S8), Tw8 mX8_wearers (d + 2) [] σ_3 (some (.int r7)) σ_5 ∧ (Rn8 mX8_front (d + 3) 37 [.int v1, .int v2, .int r7, .int (-1), .int 0] (fun T => []) σ_5 r σ1))) ∧ (((s8_isIn v2 0 1) = 0) → r = some (.int (-1)) ∧ σ1 = σ))) : Rn8 mX8_front (d + 3) 0 [.int v1, .int v2, U_, U_, U_] (fun T => []) σ r σ1 := by
  intro G l T hp hK hT
  refine R_iload_n dX8_front_0 rfl ?_
  refine R_iconst (v := 0) dX8_front_1 (by decide) ?_
  refine R_sipush (v := 999) dX8_front_2 (by decide) ?_
  refine T8_callS [.int v1, .int 0, .int 999] dX8_front_5 cs8_417 rfl rfl (Nat.le_of_ble_eq_true rfl) (st8_isIn (d + 1) v1 0 999) ?_
  show RnH [] G l mX8_front (d + 3) (fun v hp1 => v = r ∧ hp1 = tw T σ1 hp) noX 8 (.ref T :: [.int v1, .int v2, U_, U_, U_]) [.int (s8_isIn v1 0 999)] (tw T σ hp) 0 0
  refine R_if_eq 20 dX8_front_8 (by decide) (fun c1 => ?_) (fun c1 => ?_)
  · replace h := h.1 c1
    refine R_iconst (v := (-1)) dX8_front_20 (by decide) ?_
    exact R_iret dX8_front_21 rfl rfl ⟨h.1.symm, by rw [h.2]⟩
  · replace h := h.2 c1
    refine R_iload_n dX8_front_11 rfl ?_
    refine R_iconst (v := 0) dX8_front_12 (by decide) ?_
    refine R_iconst (v := 1) dX8_front_13 (by decide) ?_
    refine T8_callS [.int v2, .int 0, .int 1] dX8_front_14 cs8_417 rfl rfl (Nat.le_of_ble_eq_true rfl) (st8_isIn (d + 1) v2 0 1) ?_
    show RnH [] G l mX8_front (d + 3) (fun v hp1 => v = r ∧ hp1 = tw T σ1 hp) noX 17 (.ref T :: [.int v1, .int v2, U_, U_, U_]) [.int (s8_isIn v2 0 1)] (tw T σ hp) 0 0
    refine R_if_ne 22 dX8_front_17 (by decide) (fun c2 => ?_) (fun c2 => ?_)
    · replace h := h.1 c2
      refine R_aload_n dX8_front_22 rfl ?_
      obtain ⟨σ_3, e4, h⟩ := h
      refine T8_call [] hK hT dX8_front_23 cv8_449 rfl rfl rfl (Nat.le_of_ble_eq_true rfl) e4 ?_
      show RnH [] G l mX8_front (d + 3) (fun v hp1 => v = r ∧ hp1 = tw T σ1 hp) noX 26 (.ref T :: [.int v1, .int v2, U_, U_, U_]) [] (tw T σ_3 hp) 0 0
      refine R_aload_n dX8_front_26 rfl ?_
      obtain ⟨r7, σ_5, e6, h⟩ := h
      refine T8_call [] hK hT dX8_front_27 cv8_440 rfl rfl rfl (Nat.le_of_ble_eq_true rfl) e6 ?_
      show RnH [] G l mX8_front (d + 3) (fun v hp1 => v = r ∧ hp1 = tw T σ1 hp) noX 30 (.ref T :: [.int v1, .int v2, U_, U_, U_]) [.int r7] (tw T σ_5 hp) 0 0
      refine S_istore_n (ls1 := .ref T :: [.int v1, .int v2, .int r7, U_, U_]) dX8_front_30 (by decide) rfl rfl ?_
      refine R_iconst (v := (-1)) dX8_front_31 (by decide) ?_
      refine S_istore (ls1 := .ref T :: [.int v1, .int v2, .int r7, .int (-1), U_]) dX8_front_32 (by decide) rfl rfl ?_
      refine R_iconst (v := 0) dX8_front_34 (by decide) ?_
      refine S_istore (ls1 := .ref T :: [.int v1, .int v2, .int r7, .int (-1), .int 0]) dX8_front_35 (by decide) rfl rfl ?_
      exact h G l T hp hK hT
    · replace h := h.2 c2
      refine R_iconst (v := (-1)) dX8_front_20 (by decide) ?_
      exact R_iret dX8_front_21 rfl rfl ⟨h.1.symm, by rw [h.2]⟩
theorem g8_front_37 {d : Nat} {v1 : Int32} {v2 : Int32} {v3 : Int32} {v4 : Int32} {v5 : Int32} {σ σ1 : S8} {r : Option Value} (h : ((v3 < v5) → ((0 ≤ v4) → ((¬ v2 = 0) → r = some (.int v4) ∧ σ1 = σ) ∧ ((v2 = 0) → r = some (.int (s8_members v4)) ∧ σ1 = σ)) ∧ ((¬ 0 ≤ v4) → r = some (.int (-1)) ∧ σ1 = σ)) ∧ ((¬ v3 < v5) → ((¬ (v5 &&& (v3 ^^^ (-1))) = 0) → Rn8 mX8_front (d + 3) 37 [.int v1, .int v2, .int v3, .int v4, .int (v5 + 1)] (fun T => []) σ r σ1) ∧ (((v5 &&& (v3 ^^^ (-1))) = 0) → ∃ (r7 : Int32) (σ_5 : S8), Tw8 mX8_wideOf (d + 2) [.int v5] σ (some (.int r7)) σ_5 ∧ (((r7 < v1) → Rn8 mX8_front (d + 3) 37 [.int v1, .int v2, .int v3, .int v4, .int (v5 + 1)] (fun T => []) σ_5 r σ1) ∧ ((¬ r7 < v1) → ((v4 < 0) → Rn8 mX8_front (d + 3) 37 [.int v1, .int v2, .int v3, .int v5, .int (v5 + 1)] (fun T => []) σ_5 r σ1) ∧ ((¬ v4 < 0) → (((s8_members v4) ≤ (s8_members v5)) → Rn8 mX8_front (d + 3) 37 [.int v1, .int v2, .int v3, .int v4, .int (v5 + 1)] (fun T => []) σ_5 r σ1) ∧ ((¬ (s8_members v4) ≤ (s8_members v5)) → Rn8 mX8_front (d + 3) 37 [.int v1, .int v2, .int v3, .int v5, .int (v5 + 1)] (fun T => []) σ_5 r σ1))))))) : Rn8 mX8_front (d + 3) 37 [.int v1, .int v2, .int v3, .int v4, .int v5] (fun T => []) σ r σ1 := by
  intro G l T hp hK hT
  refine R_iload dX8_front_37 rfl ?_
  refine R_iload_n dX8_front_39 rfl ?_
  refine R_icmp_gt 90 dX8_front_40 (by decide) (fun c1 => ?_) (fun c1 => ?_)
  · replace h := h.1 c1
    refine R_iload dX8_front_90 rfl ?_
    refine R_if_ge 99 dX8_front_92 (by decide) (fun c2 => ?_) (fun c2 => ?_)
    · replace h := h.1 c2
      refine R_iload_n dX8_front_99 rfl ?_
      refine R_if_ne 111 dX8_front_100 (by decide) (fun c3 => ?_) (fun c3 => ?_)
      · replace h := h.1 c3
        refine R_iload dX8_front_111 rfl ?_
        exact R_iret dX8_front_113 rfl rfl ⟨h.1.symm, by rw [h.2]⟩
      · replace h := h.2 c3
        refine R_iload dX8_front_103 rfl ?_
        refine T8_callS [.int v4] dX8_front_105 cs8_486 rfl rfl (Nat.le_of_ble_eq_true rfl) (st8_members (d + 1) v4) ?_
        show RnH [] G l mX8_front (d + 3) (fun v hp1 => v = r ∧ hp1 = tw T σ1 hp) noX 108 (.ref T :: [.int v1, .int v2, .int v3, .int v4, .int v5]) [.int (s8_members v4)] (tw T σ hp) 0 0
        refine R_goto 113 dX8_front_108 (by decide) ?_
        exact R_iret dX8_front_113 rfl rfl ⟨h.1.symm, by rw [h.2]⟩
    · replace h := h.2 c2
      refine R_iconst (v := (-1)) dX8_front_95 (by decide) ?_
      refine R_goto 113 dX8_front_96 (by decide) ?_
      exact R_iret dX8_front_113 rfl rfl ⟨h.1.symm, by rw [h.2]⟩
  · replace h := h.2 c1
    refine R_iload dX8_front_43 rfl ?_
    refine R_iload_n dX8_front_45 rfl ?_
    refine R_iconst (v := (-1)) dX8_front_46 (by decide) ?_
    refine R_ixor dX8_front_47 ?_
    refine R_iand dX8_front_48 ?_
    refine R_if_ne 84 dX8_front_49 (by decide) (fun c4 => ?_) (fun c4 => ?_)
    · replace h := h.1 c4
      refine S_iinc (v := v5 + 1) (ls1 := .ref T :: [.int v1, .int v2, .int v3, .int v4, .int (v5 + 1)]) dX8_front_84 rfl rfl (by decide) rfl rfl ?_
      refine R_goto 37 dX8_front_87 (by decide) ?_
      exact h G l T hp hK hT
    · replace h := h.2 c4
      refine R_aload_n dX8_front_52 rfl ?_
      refine R_iload dX8_front_53 rfl ?_
      obtain ⟨r7, σ_5, e6, h⟩ := h
      refine T8_call [.int v5] hK hT dX8_front_55 cv8_492 rfl rfl rfl (Nat.le_of_ble_eq_true rfl) e6 ?_
      show RnH [] G l mX8_front (d + 3) (fun v hp1 => v = r ∧ hp1 = tw T σ1 hp) noX 58 (.ref T :: [.int v1, .int v2, .int v3, .int v4, .int v5]) [.int r7] (tw T σ_5 hp) 0 0
      refine R_iload_n dX8_front_58 rfl ?_
      refine R_icmp_lt 84 dX8_front_59 (by decide) (fun c8 => ?_) (fun c8 => ?_)
      · replace h := h.1 c8
        refine S_iinc (v := v5 + 1) (ls1 := .ref T :: [.int v1, .int v2, .int v3, .int v4, .int (v5 + 1)]) dX8_front_84 rfl rfl (by decide) rfl rfl ?_
        refine R_goto 37 dX8_front_87 (by decide) ?_
        exact h G l T hp hK hT
      · replace h := h.2 c8
        refine R_iload dX8_front_62 rfl ?_
        refine R_if_lt 80 dX8_front_64 (by decide) (fun c9 => ?_) (fun c9 => ?_)
        · replace h := h.1 c9
          refine R_iload dX8_front_80 rfl ?_
          refine S_istore (ls1 := .ref T :: [.int v1, .int v2, .int v3, .int v5, .int v5]) dX8_front_82 (by decide) rfl rfl ?_
          refine S_iinc (v := v5 + 1) (ls1 := .ref T :: [.int v1, .int v2, .int v3, .int v5, .int (v5 + 1)]) dX8_front_84 rfl rfl (by decide) rfl rfl ?_
          refine R_goto 37 dX8_front_87 (by decide) ?_
          exact h G l T hp hK hT
        · replace h := h.2 c9
          refine R_iload dX8_front_67 rfl ?_
          refine T8_callS [.int v5] dX8_front_69 cs8_486 rfl rfl (Nat.le_of_ble_eq_true rfl) (st8_members (d + 1) v5) ?_
          show RnH [] G l mX8_front (d + 3) (fun v hp1 => v = r ∧ hp1 = tw T σ1 hp) noX 72 (.ref T :: [.int v1, .int v2, .int v3, .int v4, .int v5]) [.int (s8_members v5)] (tw T σ_5 hp) 0 0
          refine R_iload dX8_front_72 rfl ?_
          refine T8_callS [.int v4] dX8_front_74 cs8_486 rfl rfl (Nat.le_of_ble_eq_true rfl) (st8_members (d + 1) v4) ?_
          show RnH [] G l mX8_front (d + 3) (fun v hp1 => v = r ∧ hp1 = tw T σ1 hp) noX 77 (.ref T :: [.int v1, .int v2, .int v3, .int v4, .int v5]) [.int (s8_members v4), .int (s8_members v5)] (tw T σ_5 hp) 0 0
          refine R_icmp_ge 84 dX8_front_77 (by decide) (fun c10 => ?_) (fun c10 => ?_)
          · replace h := h.1 c10
            refine S_iinc (v := v5 + 1) (ls1 := .ref T :: [.int v1, .int v2, .int v3, .int v4, .int (v5 + 1)]) dX8_front_84 rfl rfl (by decide) rfl rfl ?_
            refine R_goto 37 dX8_front_87 (by decide) ?_
            exact h G l T hp hK hT
          · replace h := h.2 c10
            refine R_iload dX8_front_80 rfl ?_
            refine S_istore (ls1 := .ref T :: [.int v1, .int v2, .int v3, .int v5, .int v5]) dX8_front_82 (by decide) rfl rfl ?_
            refine S_iinc (v := v5 + 1) (ls1 := .ref T :: [.int v1, .int v2, .int v3, .int v5, .int (v5 + 1)]) dX8_front_84 rfl rfl (by decide) rfl rfl ?_
            refine R_goto 37 dX8_front_87 (by decide) ?_
            exact h G l T hp hK hT
theorem g8_hem_0 {d : Nat} {v1 : Int32} {v2 : Int32} {σ σ1 : S8} {r : Option Value} (h : ∃ (r3 : Int32) (σ_1 : S8), Tw8 mX8_isCoat (d + 2) [.int v1] σ (some (.int r3)) σ_1 ∧ (((r3 = 0) → r = some (.int (-1)) ∧ σ1 = σ_1) ∧ ((¬ r3 = 0) → vp_in (12 + v1) 39 ∧ (((¬ (s8_isIn v2 1 (σ_1.2.1 59 (12 + v1).toNatClampNeg)) = 0) → ∃ σ_7 : S8, Tw8 mX8_act (d + 2) [] σ_1 none σ_7 ∧ (r = some (.int ((upd (σ_7.2.1 59) (12 + v1).toNatClampNeg ((σ_7.2.1 59 (12 + v1).toNatClampNeg) - v2)) (12 + v1).toNatClampNeg)) ∧ σ1 = (σ_7.1, upA σ_7.2.1 59 (upd (σ_7.2.1 59) (12 + v1).toNatClampNeg ((σ_7.2.1 59 (12 + v1).toNatClampNeg) - v2)), σ_7.2.2.1, σ_7.2.2.2))) ∧ (((s8_isIn v2 1 (σ_1.2.1 59 (12 + v1).toNatClampNeg)) = 0) → r = some (.int (-1)) ∧ σ1 = σ_1))))) : Rn8 mX8_hem (d + 3) 0 [.int v1, .int v2] (fun T => []) σ r σ1 := by
  intro G l T hp hK hT
  refine R_aload_n dX8_hem_0 rfl ?_
  refine R_iload_n dX8_hem_1 rfl ?_
  obtain ⟨r3, σ_1, e2, h⟩ := h
  refine T8_call [.int v1] hK hT dX8_hem_2 cv8_455 rfl rfl rfl (Nat.le_of_ble_eq_true rfl) e2 ?_
  show RnH [] G l mX8_hem (d + 3) (fun v hp1 => v = r ∧ hp1 = tw T σ1 hp) noX 5 (.ref T :: [.int v1, .int v2]) [.int r3] (tw T σ_1 hp) 0 0
  refine R_if_eq 25 dX8_hem_5 (by decide) (fun c4 => ?_) (fun c4 => ?_)
  · replace h := h.1 c4
    refine R_iconst (v := (-1)) dX8_hem_25 (by decide) ?_
    exact R_iret dX8_hem_26 rfl rfl ⟨h.1.symm, by rw [h.2]⟩
  · replace h := h.2 c4
    refine R_iload_n dX8_hem_8 rfl ?_
    refine R_iconst (v := 1) dX8_hem_9 (by decide) ?_
    refine R_aload_n dX8_hem_10 rfl ?_
    refine T8_geta hT dX8_hem_11 fl8_93 ⟨by decide, by decide, by decide⟩ ?_
    refine R_bipush (v := 12) dX8_hem_14 (by decide) ?_
    refine R_iload_n dX8_hem_16 rfl ?_
    refine R_iadd dX8_hem_17 ?_
    have b5 := h.1
    replace h := h.2
    refine T8_iald (x := σ_1.2.1 59 (12 + v1).toNatClampNeg) hT dX8_hem_18 ⟨by decide, rfl⟩ b5 rfl ?_
    refine T8_callS [.int v2, .int 1, .int (σ_1.2.1 59 (12 + v1).toNatClampNeg)] dX8_hem_19 cs8_417 rfl rfl (Nat.le_of_ble_eq_true rfl) (st8_isIn (d + 1) v2 1 (σ_1.2.1 59 (12 + v1).toNatClampNeg)) ?_
    show RnH [] G l mX8_hem (d + 3) (fun v hp1 => v = r ∧ hp1 = tw T σ1 hp) noX 22 (.ref T :: [.int v1, .int v2]) [.int (s8_isIn v2 1 (σ_1.2.1 59 (12 + v1).toNatClampNeg))] (tw T σ_1 hp) 0 0
    refine R_if_ne 27 dX8_hem_22 (by decide) (fun c6 => ?_) (fun c6 => ?_)
    · replace h := h.1 c6
      refine R_aload_n dX8_hem_27 rfl ?_
      obtain ⟨σ_7, e8, h⟩ := h
      refine T8_call [] hK hT dX8_hem_28 cv8_458 rfl rfl rfl (Nat.le_of_ble_eq_true rfl) e8 ?_
      show RnH [] G l mX8_hem (d + 3) (fun v hp1 => v = r ∧ hp1 = tw T σ1 hp) noX 31 (.ref T :: [.int v1, .int v2]) [] (tw T σ_7 hp) 0 0
      refine R_aload_n dX8_hem_31 rfl ?_
      refine T8_geta hT dX8_hem_32 fl8_93 ⟨by decide, by decide, by decide⟩ ?_
      refine R_bipush (v := 12) dX8_hem_35 (by decide) ?_
      refine R_iload_n dX8_hem_37 rfl ?_
      refine R_iadd dX8_hem_38 ?_
      refine R_dup2 dX8_hem_39 rfl rfl ?_
      refine T8_iald (x := σ_7.2.1 59 (12 + v1).toNatClampNeg) hT dX8_hem_40 ⟨by decide, rfl⟩ b5 rfl ?_
      refine R_iload_n dX8_hem_41 rfl ?_
      refine R_isub dX8_hem_42 ?_
      refine T8_iast (σ9 := (σ_7.1, upA σ_7.2.1 59 (upd (σ_7.2.1 59) (12 + v1).toNatClampNeg ((σ_7.2.1 59 (12 + v1).toNatClampNeg) - v2)), σ_7.2.2.1, σ_7.2.2.2)) hK hT dX8_hem_43 ⟨by decide, rfl⟩ b5 rfl ?_
      refine R_aload_n dX8_hem_44 rfl ?_
      refine T8_geta hT dX8_hem_45 fl8_93 ⟨by decide, by decide, by decide⟩ ?_
      refine R_bipush (v := 12) dX8_hem_48 (by decide) ?_
      refine R_iload_n dX8_hem_50 rfl ?_
      refine R_iadd dX8_hem_51 ?_
      refine T8_iald (x := (upd (σ_7.2.1 59) (12 + v1).toNatClampNeg ((σ_7.2.1 59 (12 + v1).toNatClampNeg) - v2)) (12 + v1).toNatClampNeg) hT dX8_hem_52 ⟨by decide, rfl⟩ b5 rfl ?_
      exact R_iret dX8_hem_53 rfl rfl ⟨h.1.symm, by rw [h.2]⟩
    · replace h := h.2 c6
      refine R_iconst (v := (-1)) dX8_hem_25 (by decide) ?_
      exact R_iret dX8_hem_26 rfl rfl ⟨h.1.symm, by rw [h.2]⟩
theorem g8_layColours_0 {d : Nat} {v1 : Int32} {v2 : Int32} {σ σ1 : S8} {r : Option Value} (h : Rn8 mX8_layColours (d + 3) 10 [.int v1, .int v2, .int v2, .int ((σ.1 48) - 1), U_, U_] (fun T => []) σ r σ1) : Rn8 mX8_layColours (d + 3) 0 [.int v1, .int v2, U_, U_, U_, U_] (fun T => []) σ r σ1 := by
  intro G l T hp hK hT
  refine R_iload_n dX8_layColours_0 rfl ?_
  refine S_istore_n (ls1 := .ref T :: [.int v1, .int v2, .int v2, U_, U_, U_]) dX8_layColours_1 (by decide) rfl rfl ?_
  refine R_aload_n dX8_layColours_2 rfl ?_
  refine T8_get (x := σ.1 48) hT dX8_layColours_3 fl8_387 ⟨by decide, rfl⟩ rfl ?_
  refine R_iconst (v := 1) dX8_layColours_6 (by decide) ?_
  refine R_isub dX8_layColours_7 ?_
  refine S_istore (ls1 := .ref T :: [.int v1, .int v2, .int v2, .int ((σ.1 48) - 1), U_, U_]) dX8_layColours_8 (by decide) rfl rfl ?_
  exact h G l T hp hK hT
theorem g8_layColours_10 {d : Nat} {v1 : Int32} {v2 : Int32} {v3 : Int32} {v4 : Int32} {σ σ1 : S8} {r : Option Value} (h : ((v4 < 0) → Rn8 mX8_layColours (d + 3) 41 [.int v1, .int v2, .int v3, .int 1, .int 0, U_] (fun T => []) σ r σ1) ∧ ((¬ v4 < 0) → (¬ v1 = 0) ∧ (vp_in v4 6 ∧ ((¬ v1 = 0) ∧ (Rn8 mX8_layColours (d + 3) 10 [.int v1, .int v2, .int (v3 / v1), .int (v4 + (-1)), U_, U_] (fun T => []) (σ.1, upA σ.2.1 65 (upd (σ.2.1 65) v4.toNatClampNeg (v3 - v3 / v1 * v1)), σ.2.2.1, σ.2.2.2) r σ1))))) : Rn8 mX8_layColours (d + 3) 10 [.int v1, .int v2, .int v3, .int v4, U_, U_] (fun T => []) σ r σ1 := by
  intro G l T hp hK hT
  refine R_iload dX8_layColours_10 rfl ?_
  refine R_if_lt 35 dX8_layColours_12 (by decide) (fun c1 => ?_) (fun c1 => ?_)
  · replace h := h.1 c1
    refine R_iconst (v := 1) dX8_layColours_35 (by decide) ?_
    refine S_istore (ls1 := .ref T :: [.int v1, .int v2, .int v3, .int 1, U_, U_]) dX8_layColours_36 (by decide) rfl rfl ?_
    refine R_iconst (v := 0) dX8_layColours_38 (by decide) ?_
    refine S_istore (ls1 := .ref T :: [.int v1, .int v2, .int v3, .int 1, .int 0, U_]) dX8_layColours_39 (by decide) rfl rfl ?_
    exact h G l T hp hK hT
  · replace h := h.2 c1
    refine R_aload_n dX8_layColours_15 rfl ?_
    refine T8_geta hT dX8_layColours_16 fl8_105 ⟨by decide, by decide, by decide⟩ ?_
    refine R_iload dX8_layColours_19 rfl ?_
    refine R_iload_n dX8_layColours_21 rfl ?_
    refine R_iload_n dX8_layColours_22 rfl ?_
    refine R_irem dX8_layColours_23 h.1 ?_
    replace h := h.2
    have b2 := h.1
    refine T8_iast (σ9 := (σ.1, upA σ.2.1 65 (upd (σ.2.1 65) v4.toNatClampNeg (v3 - v3 / v1 * v1)), σ.2.2.1, σ.2.2.2)) hK hT dX8_layColours_24 ⟨by decide, rfl⟩ b2 rfl ?_
    replace h := h.2
    refine R_iload_n dX8_layColours_25 rfl ?_
    refine R_iload_n dX8_layColours_26 rfl ?_
    refine R_idiv dX8_layColours_27 h.1 ?_
    replace h := h.2
    refine S_istore_n (ls1 := .ref T :: [.int v1, .int v2, .int (v3 / v1), .int v4, U_, U_]) dX8_layColours_28 (by decide) rfl rfl ?_
    refine S_iinc (v := v4 + (-1)) (ls1 := .ref T :: [.int v1, .int v2, .int (v3 / v1), .int (v4 + (-1)), U_, U_]) dX8_layColours_29 rfl rfl (by decide) rfl rfl ?_
    refine R_goto 10 dX8_layColours_32 (by decide) ?_
    exact h G l T hp hK hT
theorem g8_layColours_41 {d : Nat} {v1 : Int32} {v2 : Int32} {v3 : Int32} {v4 : Int32} {v5 : Int32} {σ σ1 : S8} {r : Option Value} (h : (((σ.1 48) ≤ v5) → isB v4 ∧ (r = some (.int v4) ∧ σ1 = σ)) ∧ ((¬ (σ.1 48) ≤ v5) → Rn8 mX8_layColours (d + 3) 53 [.int v1, .int v2, .int v3, .int v4, .int v5, .int 0] (fun T => []) σ r σ1)) : Rn8 mX8_layColours (d + 3) 41 [.int v1, .int v2, .int v3, .int v4, .int v5, U_] (fun T => []) σ r σ1 := by
  intro G l T hp hK hT
  refine R_iload dX8_layColours_41 rfl ?_
  refine R_aload_n dX8_layColours_43 rfl ?_
  refine T8_get (x := σ.1 48) hT dX8_layColours_44 fl8_387 ⟨by decide, rfl⟩ rfl ?_
  refine R_icmp_ge 112 dX8_layColours_47 (by decide) (fun c1 => ?_) (fun c1 => ?_)
  · replace h := h.1 c1
    refine R_iload dX8_layColours_112 rfl ?_
    have b9 := h.1
    replace h := h.2
    exact R_iret dX8_layColours_114 rfl b9 ⟨h.1.symm, by rw [h.2]⟩
  · replace h := h.2 c1
    refine R_iconst (v := 0) dX8_layColours_50 (by decide) ?_
    refine S_istore (ls1 := .ref T :: [.int v1, .int v2, .int v3, .int v4, .int v5, .int 0]) dX8_layColours_51 (by decide) rfl rfl ?_
    exact h G l T hp hK hT
theorem g8_layColours_53 {d : Nat} {v1 : Int32} {v2 : Int32} {v3 : Int32} {v4 : Int32} {v5 : Int32} {v6 : Int32} {σ σ1 : S8} {r : Option Value} (h : ((v5 ≤ v6) → Rn8 mX8_layColours (d + 3) 41 [.int v1, .int v2, .int v3, .int v4, .int (v5 + 1), U_] (fun T => []) σ r σ1) ∧ ((¬ v5 ≤ v6) → ((v4 = 0) → Rn8 mX8_layColours (d + 3) 53 [.int v1, .int v2, .int v3, .int 0, .int v5, .int (v6 + 1)] (fun T => []) σ r σ1) ∧ ((¬ v4 = 0) → vp_in v5 6 ∧ (vp_in v6 6 ∧ (((¬ (σ.2.1 65 v5.toNatClampNeg) = (σ.2.1 65 v6.toNatClampNeg)) → Rn8 mX8_layColours (d + 3) 53 [.int v1, .int v2, .int v3, .int 1, .int v5, .int (v6 + 1)] (fun T => []) σ r σ1) ∧ (((σ.2.1 65 v5.toNatClampNeg) = (σ.2.1 65 v6.toNatClampNeg)) → ∃ (r8 : Int32) (σ_6 : S8), Tw8 mX8_areTaken (d + 2) [.int v5, .int v6] σ (some (.int r8)) σ_6 ∧ (Rn8 mX8_layColours (d + 3) 53 [.int v1, .int v2, .int v3, .int (if r8 = 0 then 1 else 0), .int v5, .int (v6 + 1)] (fun T => []) σ_6 r σ1))))))) : Rn8 mX8_layColours (d + 3) 53 [.int v1, .int v2, .int v3, .int v4, .int v5, .int v6] (fun T => []) σ r σ1 := by
  intro G l T hp hK hT
  refine R_iload dX8_layColours_53 rfl ?_
  refine R_iload dX8_layColours_55 rfl ?_
  refine R_icmp_ge 106 dX8_layColours_57 (by decide) (fun c1 => ?_) (fun c1 => ?_)
  · replace h := h.1 c1
    refine S_iinc (v := v5 + 1) (ls1 := .ref T :: [.int v1, .int v2, .int v3, .int v4, .int (v5 + 1), .int v6]) dX8_layColours_106 rfl rfl (by decide) rfl rfl ?_
    refine R_goto 41 dX8_layColours_109 (by decide) ?_
    refine R_drop 6 ?_
    exact h G l T hp hK hT
  · replace h := h.2 c1
    refine R_iload dX8_layColours_60 rfl ?_
    refine R_if_eq 97 dX8_layColours_62 (by decide) (fun c2 => ?_) (fun c2 => ?_)
    · replace h := h.1 c2
      refine R_iconst (v := 0) dX8_layColours_97 (by decide) ?_
      refine S_istore (ls1 := .ref T :: [.int v1, .int v2, .int v3, .int 0, .int v5, .int v6]) dX8_layColours_98 (by decide) rfl rfl ?_
      refine S_iinc (v := v6 + 1) (ls1 := .ref T :: [.int v1, .int v2, .int v3, .int 0, .int v5, .int (v6 + 1)]) dX8_layColours_100 rfl rfl (by decide) rfl rfl ?_
      refine R_goto 53 dX8_layColours_103 (by decide) ?_
      exact h G l T hp hK hT
    · replace h := h.2 c2
      refine R_aload_n dX8_layColours_65 rfl ?_
      refine T8_geta hT dX8_layColours_66 fl8_105 ⟨by decide, by decide, by decide⟩ ?_
      refine R_iload dX8_layColours_69 rfl ?_
      have b3 := h.1
      replace h := h.2
      refine T8_iald (x := σ.2.1 65 v5.toNatClampNeg) hT dX8_layColours_71 ⟨by decide, rfl⟩ b3 rfl ?_
      refine R_aload_n dX8_layColours_72 rfl ?_
      refine T8_geta hT dX8_layColours_73 fl8_105 ⟨by decide, by decide, by decide⟩ ?_
      refine R_iload dX8_layColours_76 rfl ?_
      have b4 := h.1
      replace h := h.2
      refine T8_iald (x := σ.2.1 65 v6.toNatClampNeg) hT dX8_layColours_78 ⟨by decide, rfl⟩ b4 rfl ?_
      refine R_icmp_ne 93 dX8_layColours_79 (by decide) (fun c5 => ?_) (fun c5 => ?_)
      · replace h := h.1 c5
        refine R_iconst (v := 1) dX8_layColours_93 (by decide) ?_
        refine R_goto 98 dX8_layColours_94 (by decide) ?_
        refine S_istore (ls1 := .ref T :: [.int v1, .int v2, .int v3, .int 1, .int v5, .int v6]) dX8_layColours_98 (by decide) rfl rfl ?_
        refine S_iinc (v := v6 + 1) (ls1 := .ref T :: [.int v1, .int v2, .int v3, .int 1, .int v5, .int (v6 + 1)]) dX8_layColours_100 rfl rfl (by decide) rfl rfl ?_
        refine R_goto 53 dX8_layColours_103 (by decide) ?_
        exact h G l T hp hK hT
      · replace h := h.2 c5
        refine R_aload_n dX8_layColours_82 rfl ?_
        refine R_iload dX8_layColours_83 rfl ?_
        refine R_iload dX8_layColours_85 rfl ?_
        obtain ⟨r8, σ_6, e7, h⟩ := h
        refine T8_call [.int v5, .int v6] hK hT dX8_layColours_87 cv8_502 rfl rfl rfl (Nat.le_of_ble_eq_true rfl) e7 ?_
        show RnH [] G l mX8_layColours (d + 3) (fun v hp1 => v = r ∧ hp1 = tw T σ1 hp) noX 90 (.ref T :: [.int v1, .int v2, .int v3, .int v4, .int v5, .int v6]) [.int r8] (tw T σ_6 hp) 0 0
        have J9 : RnH [] G l mX8_layColours (d + 3) (fun v hp1 => v = r ∧ hp1 = tw T σ1 hp) noX 98 (.ref T :: [.int v1, .int v2, .int v3, .int v4, .int v5, .int v6]) [.int (if r8 = 0 then 1 else 0)] (tw T σ_6 hp) 0 0 := by
          refine S_istore (ls1 := .ref T :: [.int v1, .int v2, .int v3, .int (if r8 = 0 then 1 else 0), .int v5, .int v6]) dX8_layColours_98 (by decide) rfl rfl ?_
          refine S_iinc (v := v6 + 1) (ls1 := .ref T :: [.int v1, .int v2, .int v3, .int (if r8 = 0 then 1 else 0), .int v5, .int (v6 + 1)]) dX8_layColours_100 rfl rfl (by decide) rfl rfl ?_
          refine R_goto 53 dX8_layColours_103 (by decide) ?_
          exact h G l T hp hK hT
        refine R_if_ne 97 dX8_layColours_90 (by decide) (fun c11 => ?_) (fun c11 => ?_)
        · refine R_iconst (v := 0) dX8_layColours_97 (by decide) ?_
          simp only [if_neg c11] at J9
          first | exact J9 | (simp only [if_neg c11]; exact J9)
        · refine R_iconst (v := 1) dX8_layColours_93 (by decide) ?_
          refine R_goto 98 dX8_layColours_94 (by decide) ?_
          simp only [if_pos c11] at J9
          first | exact J9 | (simp only [if_pos c11]; exact J9)
theorem g8_letout_0 {d : Nat} {v1 : Int32} {v2 : Int32} {σ σ1 : S8} {r : Option Value} (h : ∃ (r3 : Int32) (σ_1 : S8), Tw8 mX8_isCoat (d + 2) [.int v1] σ (some (.int r3)) σ_1 ∧ (((r3 = 0) → r = some (.int (-1)) ∧ σ1 = σ_1) ∧ ((¬ r3 = 0) → vp_in (24 + v1) 39 ∧ ((((s8_isIn v2 1 (σ_1.2.1 59 (24 + v1).toNatClampNeg)) = 0) → r = some (.int (-1)) ∧ σ1 = σ_1) ∧ ((¬ (s8_isIn v2 1 (σ_1.2.1 59 (24 + v1).toNatClampNeg)) = 0) → vp_in (18 + v1) 39 ∧ (((((σ_1.2.1 59 (18 + v1).toNatClampNeg) + v2) ≤ 99) → ∃ σ_9 : S8, Tw8 mX8_act (d + 2) [] σ_1 none σ_9 ∧ (r = some (.int ((upd (upd (σ_9.2.1 59) (24 + v1).toNatClampNeg ((σ_9.2.1 59 (24 + v1).toNatClampNeg) - v2)) (18 + v1).toNatClampNeg (((upd (σ_9.2.1 59) (24 + v1).toNatClampNeg ((σ_9.2.1 59 (24 + v1).toNatClampNeg) - v2)) (18 + v1).toNatClampNeg) + v2)) (18 + v1).toNatClampNeg)) ∧ σ1 = (σ_9.1, upA σ_9.2.1 59 (upd (upd (σ_9.2.1 59) (24 + v1).toNatClampNeg ((σ_9.2.1 59 (24 + v1).toNatClampNeg) - v2)) (18 + v1).toNatClampNeg (((upd (σ_9.2.1 59) (24 + v1).toNatClampNeg ((σ_9.2.1 59 (24 + v1).toNatClampNeg) - v2)) (18 + v1).toNatClampNeg) + v2)), σ_9.2.2.1, σ_9.2.2.2))) ∧ ((¬ ((σ_1.2.1 59 (18 + v1).toNatClampNeg) + v2) ≤ 99) → r = some (.int (-1)) ∧ σ1 = σ_1))))))) : Rn8 mX8_letout (d + 3) 0 [.int v1, .int v2] (fun T => []) σ r σ1 := by
  intro G l T hp hK hT
  refine R_aload_n dX8_letout_0 rfl ?_
  refine R_iload_n dX8_letout_1 rfl ?_
  obtain ⟨r3, σ_1, e2, h⟩ := h
  refine T8_call [.int v1] hK hT dX8_letout_2 cv8_455 rfl rfl rfl (Nat.le_of_ble_eq_true rfl) e2 ?_
  show RnH [] G l mX8_letout (d + 3) (fun v hp1 => v = r ∧ hp1 = tw T σ1 hp) noX 5 (.ref T :: [.int v1, .int v2]) [.int r3] (tw T σ_1 hp) 0 0
  refine R_if_eq 41 dX8_letout_5 (by decide) (fun c4 => ?_) (fun c4 => ?_)
  · replace h := h.1 c4
    refine R_iconst (v := (-1)) dX8_letout_41 (by decide) ?_
    exact R_iret dX8_letout_42 rfl rfl ⟨h.1.symm, by rw [h.2]⟩
  · replace h := h.2 c4
    refine R_iload_n dX8_letout_8 rfl ?_
    refine R_iconst (v := 1) dX8_letout_9 (by decide) ?_
    refine R_aload_n dX8_letout_10 rfl ?_
    refine T8_geta hT dX8_letout_11 fl8_93 ⟨by decide, by decide, by decide⟩ ?_
    refine R_bipush (v := 24) dX8_letout_14 (by decide) ?_
    refine R_iload_n dX8_letout_16 rfl ?_
    refine R_iadd dX8_letout_17 ?_
    have b5 := h.1
    replace h := h.2
    refine T8_iald (x := σ_1.2.1 59 (24 + v1).toNatClampNeg) hT dX8_letout_18 ⟨by decide, rfl⟩ b5 rfl ?_
    refine T8_callS [.int v2, .int 1, .int (σ_1.2.1 59 (24 + v1).toNatClampNeg)] dX8_letout_19 cs8_417 rfl rfl (Nat.le_of_ble_eq_true rfl) (st8_isIn (d + 1) v2 1 (σ_1.2.1 59 (24 + v1).toNatClampNeg)) ?_
    show RnH [] G l mX8_letout (d + 3) (fun v hp1 => v = r ∧ hp1 = tw T σ1 hp) noX 22 (.ref T :: [.int v1, .int v2]) [.int (s8_isIn v2 1 (σ_1.2.1 59 (24 + v1).toNatClampNeg))] (tw T σ_1 hp) 0 0
    refine R_if_eq 41 dX8_letout_22 (by decide) (fun c6 => ?_) (fun c6 => ?_)
    · replace h := h.1 c6
      refine R_iconst (v := (-1)) dX8_letout_41 (by decide) ?_
      exact R_iret dX8_letout_42 rfl rfl ⟨h.1.symm, by rw [h.2]⟩
    · replace h := h.2 c6
      refine R_aload_n dX8_letout_25 rfl ?_
      refine T8_geta hT dX8_letout_26 fl8_93 ⟨by decide, by decide, by decide⟩ ?_
      refine R_bipush (v := 18) dX8_letout_29 (by decide) ?_
      refine R_iload_n dX8_letout_31 rfl ?_
      refine R_iadd dX8_letout_32 ?_
      have b7 := h.1
      replace h := h.2
      refine T8_iald (x := σ_1.2.1 59 (18 + v1).toNatClampNeg) hT dX8_letout_33 ⟨by decide, rfl⟩ b7 rfl ?_
      refine R_iload_n dX8_letout_34 rfl ?_
      refine R_iadd dX8_letout_35 ?_
      refine R_bipush (v := 99) dX8_letout_36 (by decide) ?_
      refine R_icmp_le 43 dX8_letout_38 (by decide) (fun c8 => ?_) (fun c8 => ?_)
      · replace h := h.1 c8
        refine R_aload_n dX8_letout_43 rfl ?_
        obtain ⟨σ_9, e10, h⟩ := h
        refine T8_call [] hK hT dX8_letout_44 cv8_458 rfl rfl rfl (Nat.le_of_ble_eq_true rfl) e10 ?_
        show RnH [] G l mX8_letout (d + 3) (fun v hp1 => v = r ∧ hp1 = tw T σ1 hp) noX 47 (.ref T :: [.int v1, .int v2]) [] (tw T σ_9 hp) 0 0
        refine R_aload_n dX8_letout_47 rfl ?_
        refine T8_geta hT dX8_letout_48 fl8_93 ⟨by decide, by decide, by decide⟩ ?_
        refine R_bipush (v := 24) dX8_letout_51 (by decide) ?_
        refine R_iload_n dX8_letout_53 rfl ?_
        refine R_iadd dX8_letout_54 ?_
        refine R_dup2 dX8_letout_55 rfl rfl ?_
        refine T8_iald (x := σ_9.2.1 59 (24 + v1).toNatClampNeg) hT dX8_letout_56 ⟨by decide, rfl⟩ b5 rfl ?_
        refine R_iload_n dX8_letout_57 rfl ?_
        refine R_isub dX8_letout_58 ?_
        refine T8_iast (σ9 := (σ_9.1, upA σ_9.2.1 59 (upd (σ_9.2.1 59) (24 + v1).toNatClampNeg ((σ_9.2.1 59 (24 + v1).toNatClampNeg) - v2)), σ_9.2.2.1, σ_9.2.2.2)) hK hT dX8_letout_59 ⟨by decide, rfl⟩ b5 rfl ?_
        refine R_aload_n dX8_letout_60 rfl ?_
        refine T8_geta hT dX8_letout_61 fl8_93 ⟨by decide, by decide, by decide⟩ ?_
        refine R_bipush (v := 18) dX8_letout_64 (by decide) ?_
        refine R_iload_n dX8_letout_66 rfl ?_
        refine R_iadd dX8_letout_67 ?_
        refine R_dup2 dX8_letout_68 rfl rfl ?_
        refine T8_iald (x := (upd (σ_9.2.1 59) (24 + v1).toNatClampNeg ((σ_9.2.1 59 (24 + v1).toNatClampNeg) - v2)) (18 + v1).toNatClampNeg) hT dX8_letout_69 ⟨by decide, rfl⟩ b7 rfl ?_
        refine R_iload_n dX8_letout_70 rfl ?_
        refine R_iadd dX8_letout_71 ?_
        refine T8_iast (σ9 := (σ_9.1, upA σ_9.2.1 59 (upd (upd (σ_9.2.1 59) (24 + v1).toNatClampNeg ((σ_9.2.1 59 (24 + v1).toNatClampNeg) - v2)) (18 + v1).toNatClampNeg (((upd (σ_9.2.1 59) (24 + v1).toNatClampNeg ((σ_9.2.1 59 (24 + v1).toNatClampNeg) - v2)) (18 + v1).toNatClampNeg) + v2)), σ_9.2.2.1, σ_9.2.2.2)) hK hT dX8_letout_72 ⟨by decide, rfl⟩ b7 (up9 σ_9.1 σ_9.2.1 59 (upd (σ_9.2.1 59) (24 + v1).toNatClampNeg ((σ_9.2.1 59 (24 + v1).toNatClampNeg) - v2)) (upd (upd (σ_9.2.1 59) (24 + v1).toNatClampNeg ((σ_9.2.1 59 (24 + v1).toNatClampNeg) - v2)) (18 + v1).toNatClampNeg (((upd (σ_9.2.1 59) (24 + v1).toNatClampNeg ((σ_9.2.1 59 (24 + v1).toNatClampNeg) - v2)) (18 + v1).toNatClampNeg) + v2)) σ_9.2.2.1 σ_9.2.2.2) ?_
        refine R_aload_n dX8_letout_73 rfl ?_
        refine T8_geta hT dX8_letout_74 fl8_93 ⟨by decide, by decide, by decide⟩ ?_
        refine R_bipush (v := 18) dX8_letout_77 (by decide) ?_
        refine R_iload_n dX8_letout_79 rfl ?_
        refine R_iadd dX8_letout_80 ?_
        refine T8_iald (x := (upd (upd (σ_9.2.1 59) (24 + v1).toNatClampNeg ((σ_9.2.1 59 (24 + v1).toNatClampNeg) - v2)) (18 + v1).toNatClampNeg (((upd (σ_9.2.1 59) (24 + v1).toNatClampNeg ((σ_9.2.1 59 (24 + v1).toNatClampNeg) - v2)) (18 + v1).toNatClampNeg) + v2)) (18 + v1).toNatClampNeg) hT dX8_letout_81 ⟨by decide, rfl⟩ b7 rfl ?_
        exact R_iret dX8_letout_82 rfl rfl ⟨h.1.symm, by rw [h.2]⟩
      · replace h := h.2 c8
        refine R_iconst (v := (-1)) dX8_letout_41 (by decide) ?_
        exact R_iret dX8_letout_42 rfl rfl ⟨h.1.symm, by rw [h.2]⟩
theorem g8_misfitOf_0 {d : Nat} {v1 : Int32} {v2 : Int32} {σ σ1 : S8} {r : Option Value} (h : vp_in v1 39 ∧ (vp_in (18 + v2) 39 ∧ (vp_in v1 6 ∧ (vp_in (12 + v2) 39 ∧ (vp_in (30 + v2) 39 ∧ (((¬ (σ.1 25) = 0) → Rn8 mX8_misfitOf (d + 3) 181 [.int v1, .int v2, .int 0, .int 0] (fun T => []) (σ.1, upA σ.2.1 26 (upd (upd (upd (upd (upd (upd (σ.2.1 26) 0 (s8_over (σ.2.1 60 v1.toNatClampNeg) (σ.2.1 60 (18 + v2).toNatClampNeg))) 1 (s8_over (σ.2.1 60 (18 + v2).toNatClampNeg) (σ.2.1 60 v1.toNatClampNeg))) 2 (s8_over (σ.2.1 34 v1.toNatClampNeg) (σ.2.1 60 (12 + v2).toNatClampNeg))) 3 (s8_over (σ.2.1 60 (12 + v2).toNatClampNeg) (σ.2.1 34 v1.toNatClampNeg))) 4 (σ.2.1 60 (30 + v2).toNatClampNeg)) 5 (σ.2.1 60 37)), σ.2.2.1, σ.2.2.2) r σ1) ∧ (((σ.1 25) = 0) → r = some (.int (s8_within (((((3 * (s8_over (σ.2.1 60 v1.toNatClampNeg) (σ.2.1 60 (18 + v2).toNatClampNeg))) + (s8_over (σ.2.1 60 (18 + v2).toNatClampNeg) (σ.2.1 60 v1.toNatClampNeg))) + (2 * (s8_over (σ.2.1 34 v1.toNatClampNeg) (σ.2.1 60 (12 + v2).toNatClampNeg)))) + (s8_over (σ.2.1 60 (12 + v2).toNatClampNeg) (σ.2.1 34 v1.toNatClampNeg))) + (σ.2.1 60 (30 + v2).toNatClampNeg)) 999)) ∧ σ1 = (σ.1, upA σ.2.1 26 (upd (upd (upd (upd (upd (upd (σ.2.1 26) 0 (s8_over (σ.2.1 60 v1.toNatClampNeg) (σ.2.1 60 (18 + v2).toNatClampNeg))) 1 (s8_over (σ.2.1 60 (18 + v2).toNatClampNeg) (σ.2.1 60 v1.toNatClampNeg))) 2 (s8_over (σ.2.1 34 v1.toNatClampNeg) (σ.2.1 60 (12 + v2).toNatClampNeg))) 3 (s8_over (σ.2.1 60 (12 + v2).toNatClampNeg) (σ.2.1 34 v1.toNatClampNeg))) 4 (σ.2.1 60 (30 + v2).toNatClampNeg)) 5 (σ.2.1 60 37)), σ.2.2.1, σ.2.2.2)))))))) : Rn8 mX8_misfitOf (d + 3) 0 [.int v1, .int v2, U_, U_] (fun T => []) σ r σ1 := by
  intro G l T hp hK hT
  refine R_aload_n dX8_misfitOf_0 rfl ?_
  refine T8_geta hT dX8_misfitOf_1 fl8_39 ⟨by decide, by decide, by decide⟩ ?_
  refine R_iconst (v := 0) dX8_misfitOf_4 (by decide) ?_
  refine R_aload_n dX8_misfitOf_5 rfl ?_
  refine T8_geta hT dX8_misfitOf_6 fl8_96 ⟨by decide, by decide, by decide⟩ ?_
  refine R_iload_n dX8_misfitOf_9 rfl ?_
  have b1 := h.1
  replace h := h.2
  refine T8_iald (x := σ.2.1 60 v1.toNatClampNeg) hT dX8_misfitOf_10 ⟨by decide, rfl⟩ b1 rfl ?_
  refine R_aload_n dX8_misfitOf_11 rfl ?_
  refine T8_geta hT dX8_misfitOf_12 fl8_96 ⟨by decide, by decide, by decide⟩ ?_
  refine R_bipush (v := 18) dX8_misfitOf_15 (by decide) ?_
  refine R_iload_n dX8_misfitOf_17 rfl ?_
  refine R_iadd dX8_misfitOf_18 ?_
  have b2 := h.1
  replace h := h.2
  refine T8_iald (x := σ.2.1 60 (18 + v2).toNatClampNeg) hT dX8_misfitOf_19 ⟨by decide, rfl⟩ b2 rfl ?_
  refine T8_callS [.int (σ.2.1 60 v1.toNatClampNeg), .int (σ.2.1 60 (18 + v2).toNatClampNeg)] dX8_misfitOf_20 cs8_314 rfl rfl (Nat.le_of_ble_eq_true rfl) (st8_over (d + 1) (σ.2.1 60 v1.toNatClampNeg) (σ.2.1 60 (18 + v2).toNatClampNeg)) ?_
  show RnH [] G l mX8_misfitOf (d + 3) (fun v hp1 => v = r ∧ hp1 = tw T σ1 hp) noX 23 (.ref T :: [.int v1, .int v2, U_, U_]) [.int (s8_over (σ.2.1 60 v1.toNatClampNeg) (σ.2.1 60 (18 + v2).toNatClampNeg)), .int 0, .ref (a8 T 26)] (tw T σ hp) 0 0
  refine T8_iast (σ9 := (σ.1, upA σ.2.1 26 (upd (σ.2.1 26) 0 (s8_over (σ.2.1 60 v1.toNatClampNeg) (σ.2.1 60 (18 + v2).toNatClampNeg))), σ.2.2.1, σ.2.2.2)) hK hT dX8_misfitOf_23 ⟨by decide, rfl⟩ (by unfold vp_in; decide) rfl ?_
  refine R_aload_n dX8_misfitOf_24 rfl ?_
  refine T8_geta hT dX8_misfitOf_25 fl8_39 ⟨by decide, by decide, by decide⟩ ?_
  refine R_iconst (v := 1) dX8_misfitOf_28 (by decide) ?_
  refine R_aload_n dX8_misfitOf_29 rfl ?_
  refine T8_geta hT dX8_misfitOf_30 fl8_96 ⟨by decide, by decide, by decide⟩ ?_
  refine R_bipush (v := 18) dX8_misfitOf_33 (by decide) ?_
  refine R_iload_n dX8_misfitOf_35 rfl ?_
  refine R_iadd dX8_misfitOf_36 ?_
  refine T8_iald (x := σ.2.1 60 (18 + v2).toNatClampNeg) hT dX8_misfitOf_37 ⟨by decide, rfl⟩ b2 rfl ?_
  refine R_aload_n dX8_misfitOf_38 rfl ?_
  refine T8_geta hT dX8_misfitOf_39 fl8_96 ⟨by decide, by decide, by decide⟩ ?_
  refine R_iload_n dX8_misfitOf_42 rfl ?_
  refine T8_iald (x := σ.2.1 60 v1.toNatClampNeg) hT dX8_misfitOf_43 ⟨by decide, rfl⟩ b1 rfl ?_
  refine T8_callS [.int (σ.2.1 60 (18 + v2).toNatClampNeg), .int (σ.2.1 60 v1.toNatClampNeg)] dX8_misfitOf_44 cs8_314 rfl rfl (Nat.le_of_ble_eq_true rfl) (st8_over (d + 1) (σ.2.1 60 (18 + v2).toNatClampNeg) (σ.2.1 60 v1.toNatClampNeg)) ?_
  show RnH [] G l mX8_misfitOf (d + 3) (fun v hp1 => v = r ∧ hp1 = tw T σ1 hp) noX 47 (.ref T :: [.int v1, .int v2, U_, U_]) [.int (s8_over (σ.2.1 60 (18 + v2).toNatClampNeg) (σ.2.1 60 v1.toNatClampNeg)), .int 1, .ref (a8 T 26)] (tw T (σ.1, upA σ.2.1 26 (upd (σ.2.1 26) 0 (s8_over (σ.2.1 60 v1.toNatClampNeg) (σ.2.1 60 (18 + v2).toNatClampNeg))), σ.2.2.1, σ.2.2.2) hp) 0 0
  refine T8_iast (σ9 := (σ.1, upA σ.2.1 26 (upd (upd (σ.2.1 26) 0 (s8_over (σ.2.1 60 v1.toNatClampNeg) (σ.2.1 60 (18 + v2).toNatClampNeg))) 1 (s8_over (σ.2.1 60 (18 + v2).toNatClampNeg) (σ.2.1 60 v1.toNatClampNeg))), σ.2.2.1, σ.2.2.2)) hK hT dX8_misfitOf_47 ⟨by decide, rfl⟩ (by unfold vp_in; decide) (up9 σ.1 σ.2.1 26 (upd (σ.2.1 26) 0 (s8_over (σ.2.1 60 v1.toNatClampNeg) (σ.2.1 60 (18 + v2).toNatClampNeg))) (upd (upd (σ.2.1 26) 0 (s8_over (σ.2.1 60 v1.toNatClampNeg) (σ.2.1 60 (18 + v2).toNatClampNeg))) 1 (s8_over (σ.2.1 60 (18 + v2).toNatClampNeg) (σ.2.1 60 v1.toNatClampNeg))) σ.2.2.1 σ.2.2.2) ?_
  refine R_aload_n dX8_misfitOf_48 rfl ?_
  refine T8_geta hT dX8_misfitOf_49 fl8_39 ⟨by decide, by decide, by decide⟩ ?_
  refine R_iconst (v := 2) dX8_misfitOf_52 (by decide) ?_
  refine R_aload_n dX8_misfitOf_53 rfl ?_
  refine T8_geta hT dX8_misfitOf_54 fl8_63 ⟨by decide, by decide, by decide⟩ ?_
  refine R_iload_n dX8_misfitOf_57 rfl ?_
  have b3 := h.1
  replace h := h.2
  refine T8_iald (x := σ.2.1 34 v1.toNatClampNeg) hT dX8_misfitOf_58 ⟨by decide, rfl⟩ b3 rfl ?_
  refine R_aload_n dX8_misfitOf_59 rfl ?_
  refine T8_geta hT dX8_misfitOf_60 fl8_96 ⟨by decide, by decide, by decide⟩ ?_
  refine R_bipush (v := 12) dX8_misfitOf_63 (by decide) ?_
  refine R_iload_n dX8_misfitOf_65 rfl ?_
  refine R_iadd dX8_misfitOf_66 ?_
  have b4 := h.1
  replace h := h.2
  refine T8_iald (x := σ.2.1 60 (12 + v2).toNatClampNeg) hT dX8_misfitOf_67 ⟨by decide, rfl⟩ b4 rfl ?_
  refine T8_callS [.int (σ.2.1 34 v1.toNatClampNeg), .int (σ.2.1 60 (12 + v2).toNatClampNeg)] dX8_misfitOf_68 cs8_314 rfl rfl (Nat.le_of_ble_eq_true rfl) (st8_over (d + 1) (σ.2.1 34 v1.toNatClampNeg) (σ.2.1 60 (12 + v2).toNatClampNeg)) ?_
  show RnH [] G l mX8_misfitOf (d + 3) (fun v hp1 => v = r ∧ hp1 = tw T σ1 hp) noX 71 (.ref T :: [.int v1, .int v2, U_, U_]) [.int (s8_over (σ.2.1 34 v1.toNatClampNeg) (σ.2.1 60 (12 + v2).toNatClampNeg)), .int 2, .ref (a8 T 26)] (tw T (σ.1, upA σ.2.1 26 (upd (upd (σ.2.1 26) 0 (s8_over (σ.2.1 60 v1.toNatClampNeg) (σ.2.1 60 (18 + v2).toNatClampNeg))) 1 (s8_over (σ.2.1 60 (18 + v2).toNatClampNeg) (σ.2.1 60 v1.toNatClampNeg))), σ.2.2.1, σ.2.2.2) hp) 0 0
  refine T8_iast (σ9 := (σ.1, upA σ.2.1 26 (upd (upd (upd (σ.2.1 26) 0 (s8_over (σ.2.1 60 v1.toNatClampNeg) (σ.2.1 60 (18 + v2).toNatClampNeg))) 1 (s8_over (σ.2.1 60 (18 + v2).toNatClampNeg) (σ.2.1 60 v1.toNatClampNeg))) 2 (s8_over (σ.2.1 34 v1.toNatClampNeg) (σ.2.1 60 (12 + v2).toNatClampNeg))), σ.2.2.1, σ.2.2.2)) hK hT dX8_misfitOf_71 ⟨by decide, rfl⟩ (by unfold vp_in; decide) (up9 σ.1 σ.2.1 26 (upd (upd (σ.2.1 26) 0 (s8_over (σ.2.1 60 v1.toNatClampNeg) (σ.2.1 60 (18 + v2).toNatClampNeg))) 1 (s8_over (σ.2.1 60 (18 + v2).toNatClampNeg) (σ.2.1 60 v1.toNatClampNeg))) (upd (upd (upd (σ.2.1 26) 0 (s8_over (σ.2.1 60 v1.toNatClampNeg) (σ.2.1 60 (18 + v2).toNatClampNeg))) 1 (s8_over (σ.2.1 60 (18 + v2).toNatClampNeg) (σ.2.1 60 v1.toNatClampNeg))) 2 (s8_over (σ.2.1 34 v1.toNatClampNeg) (σ.2.1 60 (12 + v2).toNatClampNeg))) σ.2.2.1 σ.2.2.2) ?_
  refine R_aload_n dX8_misfitOf_72 rfl ?_
  refine T8_geta hT dX8_misfitOf_73 fl8_39 ⟨by decide, by decide, by decide⟩ ?_
  refine R_iconst (v := 3) dX8_misfitOf_76 (by decide) ?_
  refine R_aload_n dX8_misfitOf_77 rfl ?_
  refine T8_geta hT dX8_misfitOf_78 fl8_96 ⟨by decide, by decide, by decide⟩ ?_
  refine R_bipush (v := 12) dX8_misfitOf_81 (by decide) ?_
  refine R_iload_n dX8_misfitOf_83 rfl ?_
  refine R_iadd dX8_misfitOf_84 ?_
  refine T8_iald (x := σ.2.1 60 (12 + v2).toNatClampNeg) hT dX8_misfitOf_85 ⟨by decide, rfl⟩ b4 rfl ?_
  refine R_aload_n dX8_misfitOf_86 rfl ?_
  refine T8_geta hT dX8_misfitOf_87 fl8_63 ⟨by decide, by decide, by decide⟩ ?_
  refine R_iload_n dX8_misfitOf_90 rfl ?_
  refine T8_iald (x := σ.2.1 34 v1.toNatClampNeg) hT dX8_misfitOf_91 ⟨by decide, rfl⟩ b3 rfl ?_
  refine T8_callS [.int (σ.2.1 60 (12 + v2).toNatClampNeg), .int (σ.2.1 34 v1.toNatClampNeg)] dX8_misfitOf_92 cs8_314 rfl rfl (Nat.le_of_ble_eq_true rfl) (st8_over (d + 1) (σ.2.1 60 (12 + v2).toNatClampNeg) (σ.2.1 34 v1.toNatClampNeg)) ?_
  show RnH [] G l mX8_misfitOf (d + 3) (fun v hp1 => v = r ∧ hp1 = tw T σ1 hp) noX 95 (.ref T :: [.int v1, .int v2, U_, U_]) [.int (s8_over (σ.2.1 60 (12 + v2).toNatClampNeg) (σ.2.1 34 v1.toNatClampNeg)), .int 3, .ref (a8 T 26)] (tw T (σ.1, upA σ.2.1 26 (upd (upd (upd (σ.2.1 26) 0 (s8_over (σ.2.1 60 v1.toNatClampNeg) (σ.2.1 60 (18 + v2).toNatClampNeg))) 1 (s8_over (σ.2.1 60 (18 + v2).toNatClampNeg) (σ.2.1 60 v1.toNatClampNeg))) 2 (s8_over (σ.2.1 34 v1.toNatClampNeg) (σ.2.1 60 (12 + v2).toNatClampNeg))), σ.2.2.1, σ.2.2.2) hp) 0 0
  refine T8_iast (σ9 := (σ.1, upA σ.2.1 26 (upd (upd (upd (upd (σ.2.1 26) 0 (s8_over (σ.2.1 60 v1.toNatClampNeg) (σ.2.1 60 (18 + v2).toNatClampNeg))) 1 (s8_over (σ.2.1 60 (18 + v2).toNatClampNeg) (σ.2.1 60 v1.toNatClampNeg))) 2 (s8_over (σ.2.1 34 v1.toNatClampNeg) (σ.2.1 60 (12 + v2).toNatClampNeg))) 3 (s8_over (σ.2.1 60 (12 + v2).toNatClampNeg) (σ.2.1 34 v1.toNatClampNeg))), σ.2.2.1, σ.2.2.2)) hK hT dX8_misfitOf_95 ⟨by decide, rfl⟩ (by unfold vp_in; decide) (up9 σ.1 σ.2.1 26 (upd (upd (upd (σ.2.1 26) 0 (s8_over (σ.2.1 60 v1.toNatClampNeg) (σ.2.1 60 (18 + v2).toNatClampNeg))) 1 (s8_over (σ.2.1 60 (18 + v2).toNatClampNeg) (σ.2.1 60 v1.toNatClampNeg))) 2 (s8_over (σ.2.1 34 v1.toNatClampNeg) (σ.2.1 60 (12 + v2).toNatClampNeg))) (upd (upd (upd (upd (σ.2.1 26) 0 (s8_over (σ.2.1 60 v1.toNatClampNeg) (σ.2.1 60 (18 + v2).toNatClampNeg))) 1 (s8_over (σ.2.1 60 (18 + v2).toNatClampNeg) (σ.2.1 60 v1.toNatClampNeg))) 2 (s8_over (σ.2.1 34 v1.toNatClampNeg) (σ.2.1 60 (12 + v2).toNatClampNeg))) 3 (s8_over (σ.2.1 60 (12 + v2).toNatClampNeg) (σ.2.1 34 v1.toNatClampNeg))) σ.2.2.1 σ.2.2.2) ?_
  refine R_aload_n dX8_misfitOf_96 rfl ?_
  refine T8_geta hT dX8_misfitOf_97 fl8_39 ⟨by decide, by decide, by decide⟩ ?_
  refine R_iconst (v := 4) dX8_misfitOf_100 (by decide) ?_
  refine R_aload_n dX8_misfitOf_101 rfl ?_
  refine T8_geta hT dX8_misfitOf_102 fl8_96 ⟨by decide, by decide, by decide⟩ ?_
  refine R_bipush (v := 30) dX8_misfitOf_105 (by decide) ?_
  refine R_iload_n dX8_misfitOf_107 rfl ?_
  refine R_iadd dX8_misfitOf_108 ?_
  have b5 := h.1
  replace h := h.2
  refine T8_iald (x := σ.2.1 60 (30 + v2).toNatClampNeg) hT dX8_misfitOf_109 ⟨by decide, rfl⟩ b5 rfl ?_
  refine T8_iast (σ9 := (σ.1, upA σ.2.1 26 (upd (upd (upd (upd (upd (σ.2.1 26) 0 (s8_over (σ.2.1 60 v1.toNatClampNeg) (σ.2.1 60 (18 + v2).toNatClampNeg))) 1 (s8_over (σ.2.1 60 (18 + v2).toNatClampNeg) (σ.2.1 60 v1.toNatClampNeg))) 2 (s8_over (σ.2.1 34 v1.toNatClampNeg) (σ.2.1 60 (12 + v2).toNatClampNeg))) 3 (s8_over (σ.2.1 60 (12 + v2).toNatClampNeg) (σ.2.1 34 v1.toNatClampNeg))) 4 (σ.2.1 60 (30 + v2).toNatClampNeg)), σ.2.2.1, σ.2.2.2)) hK hT dX8_misfitOf_110 ⟨by decide, rfl⟩ (by unfold vp_in; decide) (up9 σ.1 σ.2.1 26 (upd (upd (upd (upd (σ.2.1 26) 0 (s8_over (σ.2.1 60 v1.toNatClampNeg) (σ.2.1 60 (18 + v2).toNatClampNeg))) 1 (s8_over (σ.2.1 60 (18 + v2).toNatClampNeg) (σ.2.1 60 v1.toNatClampNeg))) 2 (s8_over (σ.2.1 34 v1.toNatClampNeg) (σ.2.1 60 (12 + v2).toNatClampNeg))) 3 (s8_over (σ.2.1 60 (12 + v2).toNatClampNeg) (σ.2.1 34 v1.toNatClampNeg))) (upd (upd (upd (upd (upd (σ.2.1 26) 0 (s8_over (σ.2.1 60 v1.toNatClampNeg) (σ.2.1 60 (18 + v2).toNatClampNeg))) 1 (s8_over (σ.2.1 60 (18 + v2).toNatClampNeg) (σ.2.1 60 v1.toNatClampNeg))) 2 (s8_over (σ.2.1 34 v1.toNatClampNeg) (σ.2.1 60 (12 + v2).toNatClampNeg))) 3 (s8_over (σ.2.1 60 (12 + v2).toNatClampNeg) (σ.2.1 34 v1.toNatClampNeg))) 4 (σ.2.1 60 (30 + v2).toNatClampNeg)) σ.2.2.1 σ.2.2.2) ?_
  refine R_aload_n dX8_misfitOf_111 rfl ?_
  refine T8_geta hT dX8_misfitOf_112 fl8_39 ⟨by decide, by decide, by decide⟩ ?_
  refine R_iconst (v := 5) dX8_misfitOf_115 (by decide) ?_
  refine R_aload_n dX8_misfitOf_116 rfl ?_
  refine T8_geta hT dX8_misfitOf_117 fl8_96 ⟨by decide, by decide, by decide⟩ ?_
  refine R_bipush (v := 37) dX8_misfitOf_120 (by decide) ?_
  refine T8_iald (x := σ.2.1 60 37) hT dX8_misfitOf_122 ⟨by decide, rfl⟩ (by unfold vp_in; decide) rfl ?_
  refine T8_iast (σ9 := (σ.1, upA σ.2.1 26 (upd (upd (upd (upd (upd (upd (σ.2.1 26) 0 (s8_over (σ.2.1 60 v1.toNatClampNeg) (σ.2.1 60 (18 + v2).toNatClampNeg))) 1 (s8_over (σ.2.1 60 (18 + v2).toNatClampNeg) (σ.2.1 60 v1.toNatClampNeg))) 2 (s8_over (σ.2.1 34 v1.toNatClampNeg) (σ.2.1 60 (12 + v2).toNatClampNeg))) 3 (s8_over (σ.2.1 60 (12 + v2).toNatClampNeg) (σ.2.1 34 v1.toNatClampNeg))) 4 (σ.2.1 60 (30 + v2).toNatClampNeg)) 5 (σ.2.1 60 37)), σ.2.2.1, σ.2.2.2)) hK hT dX8_misfitOf_123 ⟨by decide, rfl⟩ (by unfold vp_in; decide) (up9 σ.1 σ.2.1 26 (upd (upd (upd (upd (upd (σ.2.1 26) 0 (s8_over (σ.2.1 60 v1.toNatClampNeg) (σ.2.1 60 (18 + v2).toNatClampNeg))) 1 (s8_over (σ.2.1 60 (18 + v2).toNatClampNeg) (σ.2.1 60 v1.toNatClampNeg))) 2 (s8_over (σ.2.1 34 v1.toNatClampNeg) (σ.2.1 60 (12 + v2).toNatClampNeg))) 3 (s8_over (σ.2.1 60 (12 + v2).toNatClampNeg) (σ.2.1 34 v1.toNatClampNeg))) 4 (σ.2.1 60 (30 + v2).toNatClampNeg)) (upd (upd (upd (upd (upd (upd (σ.2.1 26) 0 (s8_over (σ.2.1 60 v1.toNatClampNeg) (σ.2.1 60 (18 + v2).toNatClampNeg))) 1 (s8_over (σ.2.1 60 (18 + v2).toNatClampNeg) (σ.2.1 60 v1.toNatClampNeg))) 2 (s8_over (σ.2.1 34 v1.toNatClampNeg) (σ.2.1 60 (12 + v2).toNatClampNeg))) 3 (s8_over (σ.2.1 60 (12 + v2).toNatClampNeg) (σ.2.1 34 v1.toNatClampNeg))) 4 (σ.2.1 60 (30 + v2).toNatClampNeg)) 5 (σ.2.1 60 37)) σ.2.2.1 σ.2.2.2) ?_
  refine R_aload_n dX8_misfitOf_124 rfl ?_
  refine T8_get (x := σ.1 25) hT dX8_misfitOf_125 fl8_317 ⟨by decide, rfl⟩ rfl ?_
  refine R_if_ne 176 dX8_misfitOf_128 (by decide) (fun c6 => ?_) (fun c6 => ?_)
  · replace h := h.1 c6
    refine R_iconst (v := 0) dX8_misfitOf_176 (by decide) ?_
    refine S_istore_n (ls1 := .ref T :: [.int v1, .int v2, .int 0, U_]) dX8_misfitOf_177 (by decide) rfl rfl ?_
    refine R_iconst (v := 0) dX8_misfitOf_178 (by decide) ?_
    refine S_istore (ls1 := .ref T :: [.int v1, .int v2, .int 0, .int 0]) dX8_misfitOf_179 (by decide) rfl rfl ?_
    exact h G l T hp hK hT
  · replace h := h.2 c6
    refine R_iconst (v := 3) dX8_misfitOf_131 (by decide) ?_
    refine R_aload_n dX8_misfitOf_132 rfl ?_
    refine T8_geta hT dX8_misfitOf_133 fl8_39 ⟨by decide, by decide, by decide⟩ ?_
    refine R_iconst (v := 0) dX8_misfitOf_136 (by decide) ?_
    refine T8_iald (x := s8_over (σ.2.1 60 v1.toNatClampNeg) (σ.2.1 60 (18 + v2).toNatClampNeg)) hT dX8_misfitOf_137 ⟨by decide, rfl⟩ (by unfold vp_in; decide) rfl ?_
    refine R_imul dX8_misfitOf_138 ?_
    refine R_aload_n dX8_misfitOf_139 rfl ?_
    refine T8_geta hT dX8_misfitOf_140 fl8_39 ⟨by decide, by decide, by decide⟩ ?_
    refine R_iconst (v := 1) dX8_misfitOf_143 (by decide) ?_
    refine T8_iald (x := s8_over (σ.2.1 60 (18 + v2).toNatClampNeg) (σ.2.1 60 v1.toNatClampNeg)) hT dX8_misfitOf_144 ⟨by decide, rfl⟩ (by unfold vp_in; decide) rfl ?_
    refine R_iadd dX8_misfitOf_145 ?_
    refine R_iconst (v := 2) dX8_misfitOf_146 (by decide) ?_
    refine R_aload_n dX8_misfitOf_147 rfl ?_
    refine T8_geta hT dX8_misfitOf_148 fl8_39 ⟨by decide, by decide, by decide⟩ ?_
    refine R_iconst (v := 2) dX8_misfitOf_151 (by decide) ?_
    refine T8_iald (x := s8_over (σ.2.1 34 v1.toNatClampNeg) (σ.2.1 60 (12 + v2).toNatClampNeg)) hT dX8_misfitOf_152 ⟨by decide, rfl⟩ (by unfold vp_in; decide) rfl ?_
    refine R_imul dX8_misfitOf_153 ?_
    refine R_iadd dX8_misfitOf_154 ?_
    refine R_aload_n dX8_misfitOf_155 rfl ?_
    refine T8_geta hT dX8_misfitOf_156 fl8_39 ⟨by decide, by decide, by decide⟩ ?_
    refine R_iconst (v := 3) dX8_misfitOf_159 (by decide) ?_
    refine T8_iald (x := s8_over (σ.2.1 60 (12 + v2).toNatClampNeg) (σ.2.1 34 v1.toNatClampNeg)) hT dX8_misfitOf_160 ⟨by decide, rfl⟩ (by unfold vp_in; decide) rfl ?_
    refine R_iadd dX8_misfitOf_161 ?_
    refine R_aload_n dX8_misfitOf_162 rfl ?_
    refine T8_geta hT dX8_misfitOf_163 fl8_39 ⟨by decide, by decide, by decide⟩ ?_
    refine R_iconst (v := 4) dX8_misfitOf_166 (by decide) ?_
    refine T8_iald (x := σ.2.1 60 (30 + v2).toNatClampNeg) hT dX8_misfitOf_167 ⟨by decide, rfl⟩ (by unfold vp_in; decide) rfl ?_
    refine R_iadd dX8_misfitOf_168 ?_
    refine R_sipush (v := 999) dX8_misfitOf_169 (by decide) ?_
    refine T8_callS [.int (((((3 * (s8_over (σ.2.1 60 v1.toNatClampNeg) (σ.2.1 60 (18 + v2).toNatClampNeg))) + (s8_over (σ.2.1 60 (18 + v2).toNatClampNeg) (σ.2.1 60 v1.toNatClampNeg))) + (2 * (s8_over (σ.2.1 34 v1.toNatClampNeg) (σ.2.1 60 (12 + v2).toNatClampNeg)))) + (s8_over (σ.2.1 60 (12 + v2).toNatClampNeg) (σ.2.1 34 v1.toNatClampNeg))) + (σ.2.1 60 (30 + v2).toNatClampNeg)), .int 999] dX8_misfitOf_172 cs8_320 rfl rfl (Nat.le_of_ble_eq_true rfl) (st8_within (d + 1) (((((3 * (s8_over (σ.2.1 60 v1.toNatClampNeg) (σ.2.1 60 (18 + v2).toNatClampNeg))) + (s8_over (σ.2.1 60 (18 + v2).toNatClampNeg) (σ.2.1 60 v1.toNatClampNeg))) + (2 * (s8_over (σ.2.1 34 v1.toNatClampNeg) (σ.2.1 60 (12 + v2).toNatClampNeg)))) + (s8_over (σ.2.1 60 (12 + v2).toNatClampNeg) (σ.2.1 34 v1.toNatClampNeg))) + (σ.2.1 60 (30 + v2).toNatClampNeg)) 999) ?_
    show RnH [] G l mX8_misfitOf (d + 3) (fun v hp1 => v = r ∧ hp1 = tw T σ1 hp) noX 175 (.ref T :: [.int v1, .int v2, U_, U_]) [.int (s8_within (((((3 * (s8_over (σ.2.1 60 v1.toNatClampNeg) (σ.2.1 60 (18 + v2).toNatClampNeg))) + (s8_over (σ.2.1 60 (18 + v2).toNatClampNeg) (σ.2.1 60 v1.toNatClampNeg))) + (2 * (s8_over (σ.2.1 34 v1.toNatClampNeg) (σ.2.1 60 (12 + v2).toNatClampNeg)))) + (s8_over (σ.2.1 60 (12 + v2).toNatClampNeg) (σ.2.1 34 v1.toNatClampNeg))) + (σ.2.1 60 (30 + v2).toNatClampNeg)) 999)] (tw T (σ.1, upA σ.2.1 26 (upd (upd (upd (upd (upd (upd (σ.2.1 26) 0 (s8_over (σ.2.1 60 v1.toNatClampNeg) (σ.2.1 60 (18 + v2).toNatClampNeg))) 1 (s8_over (σ.2.1 60 (18 + v2).toNatClampNeg) (σ.2.1 60 v1.toNatClampNeg))) 2 (s8_over (σ.2.1 34 v1.toNatClampNeg) (σ.2.1 60 (12 + v2).toNatClampNeg))) 3 (s8_over (σ.2.1 60 (12 + v2).toNatClampNeg) (σ.2.1 34 v1.toNatClampNeg))) 4 (σ.2.1 60 (30 + v2).toNatClampNeg)) 5 (σ.2.1 60 37)), σ.2.2.1, σ.2.2.2) hp) 0 0
    exact R_iret dX8_misfitOf_175 rfl rfl ⟨h.1.symm, by rw [h.2]⟩
theorem g8_misfitOf_181 {d : Nat} {v1 : Int32} {v2 : Int32} {v3 : Int32} {v4 : Int32} {σ σ1 : S8} {r : Option Value} (h : (((σ.1 18) ≤ v4) → r = some (.int (s8_within (σ.2.1 16 0) 999)) ∧ σ1 = σ) ∧ ((¬ (σ.1 18) ≤ v4) → vp_in v4 320 ∧ ((((σ.2.1 13 v4.toNatClampNeg) = 0) → Rn8 mX8_misfitOf (d + 3) 211 [.int v1, .int v2, .int v3, .int v4] (fun T => []) σ r σ1) ∧ ((¬ (σ.2.1 13 v4.toNatClampNeg) = 0) → ((¬ (σ.2.1 13 v4.toNatClampNeg) = 1) → ((¬ (σ.2.1 13 v4.toNatClampNeg) = 2) → vp_in ((v3 + (-1)) - 1) 64 ∧ (vp_in (v3 + (-1)) 64 ∧ (Rn8 mX8_misfitOf (d + 3) 181 [.int v1, .int v2, .int (v3 + (-1)), .int (v4 + 1)] (fun T => []) (σ.1, upA σ.2.1 16 (upd (σ.2.1 16) ((v3 + (-1)) - 1).toNatClampNeg (s8_done (σ.2.1 14 v4.toNatClampNeg) (σ.2.1 16 ((v3 + (-1)) - 1).toNatClampNeg) (σ.2.1 16 (v3 + (-1)).toNatClampNeg))), σ.2.2.1, σ.2.2.2) r σ1))) ∧ (((σ.2.1 13 v4.toNatClampNeg) = 2) → vp_in (v3 - 1) 64 ∧ (Rn8 mX8_misfitOf (d + 3) 181 [.int v1, .int v2, .int v3, .int (v4 + 1)] (fun T => []) (σ.1, upA σ.2.1 16 (upd (σ.2.1 16) (v3 - 1).toNatClampNeg (s8_truth (if (σ.2.1 16 (v3 - 1).toNatClampNeg) = 0 then 1 else 0))), σ.2.2.1, σ.2.2.2) r σ1))) ∧ (((σ.2.1 13 v4.toNatClampNeg) = 1) → Rn8 mX8_misfitOf (d + 3) 211 [.int v1, .int v2, .int v3, .int v4] (fun T => []) σ r σ1))))) : Rn8 mX8_misfitOf (d + 3) 181 [.int v1, .int v2, .int v3, .int v4] (fun T => []) σ r σ1 := by
  intro G l T hp hK hT
  refine R_iload dX8_misfitOf_181 rfl ?_
  refine R_aload_n dX8_misfitOf_183 rfl ?_
  refine T8_get (x := σ.1 18) hT dX8_misfitOf_184 fl8_323 ⟨by decide, rfl⟩ rfl ?_
  refine R_icmp_ge 337 dX8_misfitOf_187 (by decide) (fun c1 => ?_) (fun c1 => ?_)
  · replace h := h.1 c1
    refine R_aload_n dX8_misfitOf_337 rfl ?_
    refine T8_geta hT dX8_misfitOf_338 fl8_36 ⟨by decide, by decide, by decide⟩ ?_
    refine R_iconst (v := 0) dX8_misfitOf_341 (by decide) ?_
    refine T8_iald (x := σ.2.1 16 0) hT dX8_misfitOf_342 ⟨by decide, rfl⟩ (by unfold vp_in; decide) rfl ?_
    refine R_sipush (v := 999) dX8_misfitOf_343 (by decide) ?_
    refine T8_callS [.int (σ.2.1 16 0), .int 999] dX8_misfitOf_346 cs8_320 rfl rfl (Nat.le_of_ble_eq_true rfl) (st8_within (d + 1) (σ.2.1 16 0) 999) ?_
    show RnH [] G l mX8_misfitOf (d + 3) (fun v hp1 => v = r ∧ hp1 = tw T σ1 hp) noX 349 (.ref T :: [.int v1, .int v2, .int v3, .int v4]) [.int (s8_within (σ.2.1 16 0) 999)] (tw T σ hp) 0 0
    exact R_iret dX8_misfitOf_349 rfl rfl ⟨h.1.symm, by rw [h.2]⟩
  · replace h := h.2 c1
    refine R_aload_n dX8_misfitOf_190 rfl ?_
    refine T8_geta hT dX8_misfitOf_191 fl8_27 ⟨by decide, by decide, by decide⟩ ?_
    refine R_iload dX8_misfitOf_194 rfl ?_
    have b2 := h.1
    replace h := h.2
    refine T8_iald (x := σ.2.1 13 v4.toNatClampNeg) hT dX8_misfitOf_196 ⟨by decide, rfl⟩ b2 rfl ?_
    refine R_if_eq 211 dX8_misfitOf_197 (by decide) (fun c3 => ?_) (fun c3 => ?_)
    · replace h := h.1 c3
      exact h G l T hp hK hT
    · replace h := h.2 c3
      refine R_aload_n dX8_misfitOf_200 rfl ?_
      refine T8_geta hT dX8_misfitOf_201 fl8_27 ⟨by decide, by decide, by decide⟩ ?_
      refine R_iload dX8_misfitOf_204 rfl ?_
      refine T8_iald (x := σ.2.1 13 v4.toNatClampNeg) hT dX8_misfitOf_206 ⟨by decide, rfl⟩ b2 rfl ?_
      refine R_iconst (v := 1) dX8_misfitOf_207 (by decide) ?_
      refine R_icmp_ne 255 dX8_misfitOf_208 (by decide) (fun c4 => ?_) (fun c4 => ?_)
      · replace h := h.1 c4
        refine R_aload_n dX8_misfitOf_255 rfl ?_
        refine T8_geta hT dX8_misfitOf_256 fl8_27 ⟨by decide, by decide, by decide⟩ ?_
        refine R_iload dX8_misfitOf_259 rfl ?_
        refine T8_iald (x := σ.2.1 13 v4.toNatClampNeg) hT dX8_misfitOf_261 ⟨by decide, rfl⟩ b2 rfl ?_
        refine R_iconst (v := 2) dX8_misfitOf_262 (by decide) ?_
        refine R_icmp_ne 296 dX8_misfitOf_263 (by decide) (fun c5 => ?_) (fun c5 => ?_)
        · replace h := h.1 c5
          refine S_iinc (v := v3 + (-1)) (ls1 := .ref T :: [.int v1, .int v2, .int (v3 + (-1)), .int v4]) dX8_misfitOf_296 rfl rfl (by decide) rfl rfl ?_
          refine R_aload_n dX8_misfitOf_299 rfl ?_
          refine T8_geta hT dX8_misfitOf_300 fl8_36 ⟨by decide, by decide, by decide⟩ ?_
          refine R_iload_n dX8_misfitOf_303 rfl ?_
          refine R_iconst (v := 1) dX8_misfitOf_304 (by decide) ?_
          refine R_isub dX8_misfitOf_305 ?_
          refine R_aload_n dX8_misfitOf_306 rfl ?_
          refine T8_geta hT dX8_misfitOf_307 fl8_30 ⟨by decide, by decide, by decide⟩ ?_
          refine R_iload dX8_misfitOf_310 rfl ?_
          refine T8_iald (x := σ.2.1 14 v4.toNatClampNeg) hT dX8_misfitOf_312 ⟨by decide, rfl⟩ b2 rfl ?_
          refine R_aload_n dX8_misfitOf_313 rfl ?_
          refine T8_geta hT dX8_misfitOf_314 fl8_36 ⟨by decide, by decide, by decide⟩ ?_
          refine R_iload_n dX8_misfitOf_317 rfl ?_
          refine R_iconst (v := 1) dX8_misfitOf_318 (by decide) ?_
          refine R_isub dX8_misfitOf_319 ?_
          have b6 := h.1
          replace h := h.2
          refine T8_iald (x := σ.2.1 16 ((v3 + (-1)) - 1).toNatClampNeg) hT dX8_misfitOf_320 ⟨by decide, rfl⟩ b6 rfl ?_
          refine R_aload_n dX8_misfitOf_321 rfl ?_
          refine T8_geta hT dX8_misfitOf_322 fl8_36 ⟨by decide, by decide, by decide⟩ ?_
          refine R_iload_n dX8_misfitOf_325 rfl ?_
          have b7 := h.1
          replace h := h.2
          refine T8_iald (x := σ.2.1 16 (v3 + (-1)).toNatClampNeg) hT dX8_misfitOf_326 ⟨by decide, rfl⟩ b7 rfl ?_
          refine T8_callS [.int (σ.2.1 14 v4.toNatClampNeg), .int (σ.2.1 16 ((v3 + (-1)) - 1).toNatClampNeg), .int (σ.2.1 16 (v3 + (-1)).toNatClampNeg)] dX8_misfitOf_327 cs8_326 rfl rfl (Nat.le_of_ble_eq_true rfl) (st8_done (d + 0) (σ.2.1 14 v4.toNatClampNeg) (σ.2.1 16 ((v3 + (-1)) - 1).toNatClampNeg) (σ.2.1 16 (v3 + (-1)).toNatClampNeg)) ?_
          show RnH [] G l mX8_misfitOf (d + 3) (fun v hp1 => v = r ∧ hp1 = tw T σ1 hp) noX 330 (.ref T :: [.int v1, .int v2, .int (v3 + (-1)), .int v4]) [.int (s8_done (σ.2.1 14 v4.toNatClampNeg) (σ.2.1 16 ((v3 + (-1)) - 1).toNatClampNeg) (σ.2.1 16 (v3 + (-1)).toNatClampNeg)), .int ((v3 + (-1)) - 1), .ref (a8 T 16)] (tw T σ hp) 0 0
          refine T8_iast (σ9 := (σ.1, upA σ.2.1 16 (upd (σ.2.1 16) ((v3 + (-1)) - 1).toNatClampNeg (s8_done (σ.2.1 14 v4.toNatClampNeg) (σ.2.1 16 ((v3 + (-1)) - 1).toNatClampNeg) (σ.2.1 16 (v3 + (-1)).toNatClampNeg))), σ.2.2.1, σ.2.2.2)) hK hT dX8_misfitOf_330 ⟨by decide, rfl⟩ b6 rfl ?_
          refine S_iinc (v := v4 + 1) (ls1 := .ref T :: [.int v1, .int v2, .int (v3 + (-1)), .int (v4 + 1)]) dX8_misfitOf_331 rfl rfl (by decide) rfl rfl ?_
          refine R_goto 181 dX8_misfitOf_334 (by decide) ?_
          exact h G l T hp hK hT
        · replace h := h.2 c5
          refine R_aload_n dX8_misfitOf_266 rfl ?_
          refine T8_geta hT dX8_misfitOf_267 fl8_36 ⟨by decide, by decide, by decide⟩ ?_
          refine R_iload_n dX8_misfitOf_270 rfl ?_
          refine R_iconst (v := 1) dX8_misfitOf_271 (by decide) ?_
          refine R_isub dX8_misfitOf_272 ?_
          refine R_aload_n dX8_misfitOf_273 rfl ?_
          refine T8_geta hT dX8_misfitOf_274 fl8_36 ⟨by decide, by decide, by decide⟩ ?_
          refine R_iload_n dX8_misfitOf_277 rfl ?_
          refine R_iconst (v := 1) dX8_misfitOf_278 (by decide) ?_
          refine R_isub dX8_misfitOf_279 ?_
          have b8 := h.1
          replace h := h.2
          refine T8_iald (x := σ.2.1 16 (v3 - 1).toNatClampNeg) hT dX8_misfitOf_280 ⟨by decide, rfl⟩ b8 rfl ?_
          have J9 : RnH [] G l mX8_misfitOf (d + 3) (fun v hp1 => v = r ∧ hp1 = tw T σ1 hp) noX 289 (.ref T :: [.int v1, .int v2, .int v3, .int v4]) [.int (if (σ.2.1 16 (v3 - 1).toNatClampNeg) = 0 then 1 else 0), .int (v3 - 1), .ref (a8 T 16)] (tw T σ hp) 0 0 := by
            refine T8_callS [.int (if (σ.2.1 16 (v3 - 1).toNatClampNeg) = 0 then 1 else 0)] dX8_misfitOf_289 cs8_310 rfl rfl (Nat.le_of_ble_eq_true rfl) (st8_truth (d + 1) (if (σ.2.1 16 (v3 - 1).toNatClampNeg) = 0 then 1 else 0)) ?_
            show RnH [] G l mX8_misfitOf (d + 3) (fun v hp1 => v = r ∧ hp1 = tw T σ1 hp) noX 292 (.ref T :: [.int v1, .int v2, .int v3, .int v4]) [.int (s8_truth (if (σ.2.1 16 (v3 - 1).toNatClampNeg) = 0 then 1 else 0)), .int (v3 - 1), .ref (a8 T 16)] (tw T σ hp) 0 0
            refine T8_iast (σ9 := (σ.1, upA σ.2.1 16 (upd (σ.2.1 16) (v3 - 1).toNatClampNeg (s8_truth (if (σ.2.1 16 (v3 - 1).toNatClampNeg) = 0 then 1 else 0))), σ.2.2.1, σ.2.2.2)) hK hT dX8_misfitOf_292 ⟨by decide, rfl⟩ b8 rfl ?_
            refine R_goto 331 dX8_misfitOf_293 (by decide) ?_
            refine S_iinc (v := v4 + 1) (ls1 := .ref T :: [.int v1, .int v2, .int v3, .int (v4 + 1)]) dX8_misfitOf_331 rfl rfl (by decide) rfl rfl ?_
            refine R_goto 181 dX8_misfitOf_334 (by decide) ?_
            exact h G l T hp hK hT
          refine R_if_ne 288 dX8_misfitOf_281 (by decide) (fun c11 => ?_) (fun c11 => ?_)
          · refine R_iconst (v := 0) dX8_misfitOf_288 (by decide) ?_
            simp only [if_neg c11] at J9
            first | exact J9 | (simp only [if_neg c11]; exact J9)
          · refine R_iconst (v := 1) dX8_misfitOf_284 (by decide) ?_
            refine R_goto 289 dX8_misfitOf_285 (by decide) ?_
            simp only [if_pos c11] at J9
            first | exact J9 | (simp only [if_pos c11]; exact J9)
      · replace h := h.2 c4
        exact h G l T hp hK hT
theorem g8_misfitOf_211 {d : Nat} {v1 : Int32} {v2 : Int32} {v3 : Int32} {v4 : Int32} {σ σ1 : S8} {r : Option Value} (h : vp_in v4 320 ∧ (((¬ (σ.2.1 13 v4.toNatClampNeg) = 0) → vp_in (σ.2.1 14 v4.toNatClampNeg) 6 ∧ (vp_in v3 64 ∧ (Rn8 mX8_misfitOf (d + 3) 181 [.int v1, .int v2, .int (v3 + 1), .int (v4 + 1)] (fun T => []) (σ.1, upA σ.2.1 16 (upd (σ.2.1 16) v3.toNatClampNeg (σ.2.1 26 (σ.2.1 14 v4.toNatClampNeg).toNatClampNeg)), σ.2.2.1, σ.2.2.2) r σ1))) ∧ (((σ.2.1 13 v4.toNatClampNeg) = 0) → vp_in v3 64 ∧ (Rn8 mX8_misfitOf (d + 3) 181 [.int v1, .int v2, .int (v3 + 1), .int (v4 + 1)] (fun T => []) (σ.1, upA σ.2.1 16 (upd (σ.2.1 16) v3.toNatClampNeg (σ.2.1 14 v4.toNatClampNeg)), σ.2.2.1, σ.2.2.2) r σ1)))) : Rn8 mX8_misfitOf (d + 3) 211 [.int v1, .int v2, .int v3, .int v4] (fun T => []) σ r σ1 := by
  intro G l T hp hK hT
  refine R_aload_n dX8_misfitOf_211 rfl ?_
  refine T8_geta hT dX8_misfitOf_212 fl8_36 ⟨by decide, by decide, by decide⟩ ?_
  refine R_iload_n dX8_misfitOf_215 rfl ?_
  refine R_aload_n dX8_misfitOf_216 rfl ?_
  refine T8_geta hT dX8_misfitOf_217 fl8_27 ⟨by decide, by decide, by decide⟩ ?_
  refine R_iload dX8_misfitOf_220 rfl ?_
  have b1 := h.1
  replace h := h.2
  refine T8_iald (x := σ.2.1 13 v4.toNatClampNeg) hT dX8_misfitOf_222 ⟨by decide, rfl⟩ b1 rfl ?_
  refine R_if_ne 236 dX8_misfitOf_223 (by decide) (fun c2 => ?_) (fun c2 => ?_)
  · replace h := h.1 c2
    refine R_aload_n dX8_misfitOf_236 rfl ?_
    refine T8_geta hT dX8_misfitOf_237 fl8_39 ⟨by decide, by decide, by decide⟩ ?_
    refine R_aload_n dX8_misfitOf_240 rfl ?_
    refine T8_geta hT dX8_misfitOf_241 fl8_30 ⟨by decide, by decide, by decide⟩ ?_
    refine R_iload dX8_misfitOf_244 rfl ?_
    refine T8_iald (x := σ.2.1 14 v4.toNatClampNeg) hT dX8_misfitOf_246 ⟨by decide, rfl⟩ b1 rfl ?_
    have b3 := h.1
    replace h := h.2
    refine T8_iald (x := σ.2.1 26 (σ.2.1 14 v4.toNatClampNeg).toNatClampNeg) hT dX8_misfitOf_247 ⟨by decide, rfl⟩ b3 rfl ?_
    have b4 := h.1
    refine T8_iast (σ9 := (σ.1, upA σ.2.1 16 (upd (σ.2.1 16) v3.toNatClampNeg (σ.2.1 26 (σ.2.1 14 v4.toNatClampNeg).toNatClampNeg)), σ.2.2.1, σ.2.2.2)) hK hT dX8_misfitOf_248 ⟨by decide, rfl⟩ b4 rfl ?_
    replace h := h.2
    refine S_iinc (v := v3 + 1) (ls1 := .ref T :: [.int v1, .int v2, .int (v3 + 1), .int v4]) dX8_misfitOf_249 rfl rfl (by decide) rfl rfl ?_
    refine R_goto 331 dX8_misfitOf_252 (by decide) ?_
    refine S_iinc (v := v4 + 1) (ls1 := .ref T :: [.int v1, .int v2, .int (v3 + 1), .int (v4 + 1)]) dX8_misfitOf_331 rfl rfl (by decide) rfl rfl ?_
    refine R_goto 181 dX8_misfitOf_334 (by decide) ?_
    exact h G l T hp hK hT
  · replace h := h.2 c2
    refine R_aload_n dX8_misfitOf_226 rfl ?_
    refine T8_geta hT dX8_misfitOf_227 fl8_30 ⟨by decide, by decide, by decide⟩ ?_
    refine R_iload dX8_misfitOf_230 rfl ?_
    refine T8_iald (x := σ.2.1 14 v4.toNatClampNeg) hT dX8_misfitOf_232 ⟨by decide, rfl⟩ b1 rfl ?_
    refine R_goto 248 dX8_misfitOf_233 (by decide) ?_
    have b5 := h.1
    refine T8_iast (σ9 := (σ.1, upA σ.2.1 16 (upd (σ.2.1 16) v3.toNatClampNeg (σ.2.1 14 v4.toNatClampNeg)), σ.2.2.1, σ.2.2.2)) hK hT dX8_misfitOf_248 ⟨by decide, rfl⟩ b5 rfl ?_
    replace h := h.2
    refine S_iinc (v := v3 + 1) (ls1 := .ref T :: [.int v1, .int v2, .int (v3 + 1), .int v4]) dX8_misfitOf_249 rfl rfl (by decide) rfl rfl ?_
    refine R_goto 331 dX8_misfitOf_252 (by decide) ?_
    refine S_iinc (v := v4 + 1) (ls1 := .ref T :: [.int v1, .int v2, .int (v3 + 1), .int (v4 + 1)]) dX8_misfitOf_331 rfl rfl (by decide) rfl rfl ?_
    refine R_goto 181 dX8_misfitOf_334 (by decide) ?_
    exact h G l T hp hK hT
theorem g8_newName_0 {d : Nat} {v1 : Int32} {v2 : Int32} {σ σ1 : S8} {r : Option Value} (h : ∃ σ_1 : S8, Tw8 mX8_token (d + 2) [] σ none σ_1 ∧ (∃ (r5 : Int32) (σ_3 : S8), Tw8 mX8_isName (d + 2) [] σ_1 (some (.int r5)) σ_3 ∧ (((¬ r5 = 0) → Rn8 mX8_newName (d + 3) 18 [.int v1, .int v2, .int 0] (fun T => []) σ_3 r σ1) ∧ ((r5 = 0) → ∃ σ_7 : S8, Tw8 mX8_wrong (d + 2) [.int 2] σ_3 none σ_7 ∧ (Rn8 mX8_newName (d + 3) 18 [.int v1, .int v2, .int 0] (fun T => []) σ_7 r σ1))))) : Rn8 mX8_newName (d + 3) 0 [.int v1, .int v2, U_] (fun T => []) σ r σ1 := by
  intro G l T hp hK hT
  refine R_aload_n dX8_newName_0 rfl ?_
  obtain ⟨σ_1, e2, h⟩ := h
  refine T8_call [] hK hT dX8_newName_1 cv8_235 rfl rfl rfl (Nat.le_of_ble_eq_true rfl) e2 ?_
  show RnH [] G l mX8_newName (d + 3) (fun v hp1 => v = r ∧ hp1 = tw T σ1 hp) noX 4 (.ref T :: [.int v1, .int v2, U_]) [] (tw T σ_1 hp) 0 0
  refine R_aload_n dX8_newName_4 rfl ?_
  obtain ⟨r5, σ_3, e4, h⟩ := h
  refine T8_call [] hK hT dX8_newName_5 cv8_250 rfl rfl rfl (Nat.le_of_ble_eq_true rfl) e4 ?_
  show RnH [] G l mX8_newName (d + 3) (fun v hp1 => v = r ∧ hp1 = tw T σ1 hp) noX 8 (.ref T :: [.int v1, .int v2, U_]) [.int r5] (tw T σ_3 hp) 0 0
  refine R_if_ne 16 dX8_newName_8 (by decide) (fun c6 => ?_) (fun c6 => ?_)
  · replace h := h.1 c6
    refine R_iconst (v := 0) dX8_newName_16 (by decide) ?_
    refine S_istore_n (ls1 := .ref T :: [.int v1, .int v2, .int 0]) dX8_newName_17 (by decide) rfl rfl ?_
    exact h G l T hp hK hT
  · replace h := h.2 c6
    refine R_aload_n dX8_newName_11 rfl ?_
    refine R_iconst (v := 2) dX8_newName_12 (by decide) ?_
    obtain ⟨σ_7, e8, h⟩ := h
    refine T8_call [.int 2] hK hT dX8_newName_13 cv8_232 rfl rfl rfl (Nat.le_of_ble_eq_true rfl) e8 ?_
    show RnH [] G l mX8_newName (d + 3) (fun v hp1 => v = r ∧ hp1 = tw T σ1 hp) noX 16 (.ref T :: [.int v1, .int v2, U_]) [] (tw T σ_7 hp) 0 0
    refine R_iconst (v := 0) dX8_newName_16 (by decide) ?_
    refine S_istore_n (ls1 := .ref T :: [.int v1, .int v2, .int 0]) dX8_newName_17 (by decide) rfl rfl ?_
    exact h G l T hp hK hT
theorem g8_newName_18 {d : Nat} {v1 : Int32} {v2 : Int32} {v3 : Int32} {σ σ1 : S8} {r : Option Value} (h : ((v2 ≤ v3) → Rn8 mX8_newName (d + 3) 57 [.int v1, .int v2, .int v3] (fun T => []) σ r σ1) ∧ ((¬ v2 ≤ v3) → ((¬ (σ.1 2) = 0) → Rn8 mX8_newName (d + 3) 57 [.int v1, .int v2, .int v3] (fun T => []) σ r σ1) ∧ (((σ.1 2) = 0) → vp_in (v1 + v3) 12 ∧ (((¬ (lg_cmp (σ.2.2.2 (v1 + v3).toNatClampNeg) σ.2.2.1) = 0) → Rn8 mX8_newName (d + 3) 18 [.int v1, .int v2, .int (v3 + 1)] (fun T => []) σ r σ1) ∧ (((lg_cmp (σ.2.2.2 (v1 + v3).toNatClampNeg) σ.2.2.1) = 0) → ∃ σ_4 : S8, Tw8 mX8_wrong (d + 2) [.int 3] σ none σ_4 ∧ (Rn8 mX8_newName (d + 3) 18 [.int v1, .int v2, .int (v3 + 1)] (fun T => []) σ_4 r σ1)))))) : Rn8 mX8_newName (d + 3) 18 [.int v1, .int v2, .int v3] (fun T => []) σ r σ1 := by
  intro G l T hp hK hT
  refine R_iload_n dX8_newName_18 rfl ?_
  refine R_iload_n dX8_newName_19 rfl ?_
  refine R_icmp_ge 57 dX8_newName_20 (by decide) (fun c1 => ?_) (fun c1 => ?_)
  · replace h := h.1 c1
    exact h G l T hp hK hT
  · replace h := h.2 c1
    refine R_aload_n dX8_newName_23 rfl ?_
    refine T8_get (x := σ.1 2) hT dX8_newName_24 fl8_179 ⟨by decide, rfl⟩ rfl ?_
    refine R_if_ne 57 dX8_newName_27 (by decide) (fun c2 => ?_) (fun c2 => ?_)
    · replace h := h.1 c2
      exact h G l T hp hK hT
    · replace h := h.2 c2
      refine R_aload_n dX8_newName_30 rfl ?_
      refine T8_geta hT dX8_newName_31 fl8_17 ⟨by decide, by decide, by decide⟩ ?_
      refine R_iload_n dX8_newName_34 rfl ?_
      refine R_iload_n dX8_newName_35 rfl ?_
      refine R_iadd dX8_newName_36 ?_
      refine T8_lald (x := σ.2.2.2 (v1 + v3).toNatClampNeg) hT dX8_newName_37 h.1 rfl ?_
      replace h := h.2
      refine R_aload_n dX8_newName_38 rfl ?_
      refine T8_getw (x := σ.2.2.1) hT dX8_newName_39 fl8_159 rfl ?_
      refine R_lcmp dX8_newName_42 ?_
      refine R_if_ne 51 dX8_newName_43 (by decide) (fun c3 => ?_) (fun c3 => ?_)
      · replace h := h.1 c3
        refine S_iinc (v := v3 + 1) (ls1 := .ref T :: [.int v1, .int v2, .int (v3 + 1)]) dX8_newName_51 rfl rfl (by decide) rfl rfl ?_
        refine R_goto 18 dX8_newName_54 (by decide) ?_
        exact h G l T hp hK hT
      · replace h := h.2 c3
        refine R_aload_n dX8_newName_46 rfl ?_
        refine R_iconst (v := 3) dX8_newName_47 (by decide) ?_
        obtain ⟨σ_4, e5, h⟩ := h
        refine T8_call [.int 3] hK hT dX8_newName_48 cv8_232 rfl rfl rfl (Nat.le_of_ble_eq_true rfl) e5 ?_
        show RnH [] G l mX8_newName (d + 3) (fun v hp1 => v = r ∧ hp1 = tw T σ1 hp) noX 51 (.ref T :: [.int v1, .int v2, .int v3]) [] (tw T σ_4 hp) 0 0
        refine S_iinc (v := v3 + 1) (ls1 := .ref T :: [.int v1, .int v2, .int (v3 + 1)]) dX8_newName_51 rfl rfl (by decide) rfl rfl ?_
        refine R_goto 18 dX8_newName_54 (by decide) ?_
        exact h G l T hp hK hT
theorem g8_newName_57 {d : Nat} {v1 : Int32} {v2 : Int32} {v3 : Int32} {σ σ1 : S8} {r : Option Value} (h : (((σ.1 2) ≤ 0) → vp_in (v1 + v2) 12 ∧ (∃ σ_2 : S8, Tw8 mX8_token (d + 2) [] (σ.1, σ.2.1, σ.2.2.1, vp_updL σ.2.2.2 (v1 + v2).toNatClampNeg σ.2.2.1) none σ_2 ∧ (r = none ∧ σ1 = σ_2))) ∧ ((¬ (σ.1 2) ≤ 0) → r = none ∧ σ1 = σ)) : Rn8 mX8_newName (d + 3) 57 [.int v1, .int v2, .int v3] (fun T => []) σ r σ1 := by
  intro G l T hp hK hT
  refine R_aload_n dX8_newName_57 rfl ?_
  refine T8_get (x := σ.1 2) hT dX8_newName_58 fl8_179 ⟨by decide, rfl⟩ rfl ?_
  refine R_if_le 65 dX8_newName_61 (by decide) (fun c1 => ?_) (fun c1 => ?_)
  · replace h := h.1 c1
    refine R_aload_n dX8_newName_65 rfl ?_
    refine T8_geta hT dX8_newName_66 fl8_17 ⟨by decide, by decide, by decide⟩ ?_
    refine R_iload_n dX8_newName_69 rfl ?_
    refine R_iload_n dX8_newName_70 rfl ?_
    refine R_iadd dX8_newName_71 ?_
    refine R_aload_n dX8_newName_72 rfl ?_
    refine T8_getw (x := σ.2.2.1) hT dX8_newName_73 fl8_159 rfl ?_
    refine T8_last (σ9 := (σ.1, σ.2.1, σ.2.2.1, vp_updL σ.2.2.2 (v1 + v2).toNatClampNeg σ.2.2.1)) hK hT dX8_newName_76 h.1 rfl ?_
    replace h := h.2
    refine R_aload_n dX8_newName_77 rfl ?_
    obtain ⟨σ_2, e3, h⟩ := h
    refine T8_call [] hK hT dX8_newName_78 cv8_235 rfl rfl rfl (Nat.le_of_ble_eq_true rfl) e3 ?_
    show RnH [] G l mX8_newName (d + 3) (fun v hp1 => v = r ∧ hp1 = tw T σ1 hp) noX 81 (.ref T :: [.int v1, .int v2, .int v3]) [] (tw T σ_2 hp) 0 0
    exact R_vret dX8_newName_81 rfl ⟨h.1.symm, by rw [h.2]⟩
  · replace h := h.2 c1
    exact R_vret dX8_newName_64 rfl ⟨h.1.symm, by rw [h.2]⟩
theorem g8_openUp_0 {d : Nat} {v1 : Int32} {σ σ1 : S8} {r : Option Value} (h : vp_in (σ.1 19) 160 ∧ (((¬ (σ.1 2) = 0) → r = none ∧ σ1 = (upd (upd σ.1 19 ((σ.1 19) + 1)) 23 ((σ.1 23) + 1), upA σ.2.1 15 (upd (σ.2.1 15) (σ.1 19).toNatClampNeg v1), σ.2.2.1, σ.2.2.2)) ∧ (((σ.1 2) = 0) → ∃ σ_3 : S8, Tw8 mX8_token (d + 2) [] (upd (upd σ.1 19 ((σ.1 19) + 1)) 23 ((σ.1 23) + 1), upA σ.2.1 15 (upd (σ.2.1 15) (σ.1 19).toNatClampNeg v1), σ.2.2.1, σ.2.2.2) none σ_3 ∧ (r = none ∧ σ1 = σ_3)))) : Rn8 mX8_openUp (d + 3) 0 [.int v1] (fun T => []) σ r σ1 := by
  intro G l T hp hK hT
  refine R_aload_n dX8_openUp_0 rfl ?_
  refine T8_geta hT dX8_openUp_1 fl8_33 ⟨by decide, by decide, by decide⟩ ?_
  refine R_aload_n dX8_openUp_4 rfl ?_
  refine T8_get (x := σ.1 19) hT dX8_openUp_5 fl8_256 ⟨by decide, rfl⟩ rfl ?_
  refine R_iload_n dX8_openUp_8 rfl ?_
  have b1 := h.1
  refine T8_iast (σ9 := (σ.1, upA σ.2.1 15 (upd (σ.2.1 15) (σ.1 19).toNatClampNeg v1), σ.2.2.1, σ.2.2.2)) hK hT dX8_openUp_9 ⟨by decide, rfl⟩ b1 rfl ?_
  replace h := h.2
  refine R_aload_n dX8_openUp_10 rfl ?_
  refine R_dup dX8_openUp_11 rfl ?_
  refine T8_get (x := σ.1 19) hT dX8_openUp_12 fl8_256 ⟨by decide, rfl⟩ rfl ?_
  refine R_iconst (v := 1) dX8_openUp_15 (by decide) ?_
  refine R_iadd dX8_openUp_16 ?_
  refine T8_put (σ9 := (upd σ.1 19 ((σ.1 19) + 1), upA σ.2.1 15 (upd (σ.2.1 15) (σ.1 19).toNatClampNeg v1), σ.2.2.1, σ.2.2.2)) hK hT dX8_openUp_17 fl8_256 ft8_19 rfl rfl ⟨by decide, rfl⟩ rfl ?_
  refine R_aload_n dX8_openUp_20 rfl ?_
  refine R_dup dX8_openUp_21 rfl ?_
  refine T8_get (x := σ.1 23) hT dX8_openUp_22 fl8_266 ⟨by decide, rfl⟩ rfl ?_
  refine R_iconst (v := 1) dX8_openUp_25 (by decide) ?_
  refine R_iadd dX8_openUp_26 ?_
  refine T8_put (σ9 := (upd (upd σ.1 19 ((σ.1 19) + 1)) 23 ((σ.1 23) + 1), upA σ.2.1 15 (upd (σ.2.1 15) (σ.1 19).toNatClampNeg v1), σ.2.2.1, σ.2.2.2)) hK hT dX8_openUp_27 fl8_266 ft8_23 rfl rfl ⟨by decide, rfl⟩ rfl ?_
  refine R_aload_n dX8_openUp_30 rfl ?_
  refine T8_get (x := σ.1 2) hT dX8_openUp_31 fl8_179 ⟨by decide, rfl⟩ rfl ?_
  refine R_if_ne 41 dX8_openUp_34 (by decide) (fun c2 => ?_) (fun c2 => ?_)
  · replace h := h.1 c2
    exact R_vret dX8_openUp_41 rfl ⟨h.1.symm, by rw [h.2]⟩
  · replace h := h.2 c2
    refine R_aload_n dX8_openUp_37 rfl ?_
    obtain ⟨σ_3, e4, h⟩ := h
    refine T8_call [] hK hT dX8_openUp_38 cv8_235 rfl rfl rfl (Nat.le_of_ble_eq_true rfl) e4 ?_
    show RnH [] G l mX8_openUp (d + 3) (fun v hp1 => v = r ∧ hp1 = tw T σ1 hp) noX 41 (.ref T :: [.int v1]) [] (tw T σ_3 hp) 0 0
    exact R_vret dX8_openUp_41 rfl ⟨h.1.symm, by rw [h.2]⟩
theorem g8_takein_0 {d : Nat} {v1 : Int32} {v2 : Int32} {σ σ1 : S8} {r : Option Value} (h : ∃ (r3 : Int32) (σ_1 : S8), Tw8 mX8_isCoat (d + 2) [.int v1] σ (some (.int r3)) σ_1 ∧ (((r3 = 0) → r = some (.int (-1)) ∧ σ1 = σ_1) ∧ ((¬ r3 = 0) → vp_in (18 + v1) 39 ∧ ((((s8_isIn v2 1 (σ_1.2.1 59 (18 + v1).toNatClampNeg)) = 0) → r = some (.int (-1)) ∧ σ1 = σ_1) ∧ ((¬ (s8_isIn v2 1 (σ_1.2.1 59 (18 + v1).toNatClampNeg)) = 0) → vp_in (24 + v1) 39 ∧ (((((σ_1.2.1 59 (24 + v1).toNatClampNeg) + v2) ≤ 99) → ∃ σ_9 : S8, Tw8 mX8_act (d + 2) [] σ_1 none σ_9 ∧ (r = some (.int ((upd (upd (σ_9.2.1 59) (24 + v1).toNatClampNeg ((σ_9.2.1 59 (24 + v1).toNatClampNeg) + v2)) (18 + v1).toNatClampNeg (((upd (σ_9.2.1 59) (24 + v1).toNatClampNeg ((σ_9.2.1 59 (24 + v1).toNatClampNeg) + v2)) (18 + v1).toNatClampNeg) - v2)) (18 + v1).toNatClampNeg)) ∧ σ1 = (σ_9.1, upA σ_9.2.1 59 (upd (upd (σ_9.2.1 59) (24 + v1).toNatClampNeg ((σ_9.2.1 59 (24 + v1).toNatClampNeg) + v2)) (18 + v1).toNatClampNeg (((upd (σ_9.2.1 59) (24 + v1).toNatClampNeg ((σ_9.2.1 59 (24 + v1).toNatClampNeg) + v2)) (18 + v1).toNatClampNeg) - v2)), σ_9.2.2.1, σ_9.2.2.2))) ∧ ((¬ ((σ_1.2.1 59 (24 + v1).toNatClampNeg) + v2) ≤ 99) → r = some (.int (-1)) ∧ σ1 = σ_1))))))) : Rn8 mX8_takein (d + 3) 0 [.int v1, .int v2] (fun T => []) σ r σ1 := by
  intro G l T hp hK hT
  refine R_aload_n dX8_takein_0 rfl ?_
  refine R_iload_n dX8_takein_1 rfl ?_
  obtain ⟨r3, σ_1, e2, h⟩ := h
  refine T8_call [.int v1] hK hT dX8_takein_2 cv8_455 rfl rfl rfl (Nat.le_of_ble_eq_true rfl) e2 ?_
  show RnH [] G l mX8_takein (d + 3) (fun v hp1 => v = r ∧ hp1 = tw T σ1 hp) noX 5 (.ref T :: [.int v1, .int v2]) [.int r3] (tw T σ_1 hp) 0 0
  refine R_if_eq 41 dX8_takein_5 (by decide) (fun c4 => ?_) (fun c4 => ?_)
  · replace h := h.1 c4
    refine R_iconst (v := (-1)) dX8_takein_41 (by decide) ?_
    exact R_iret dX8_takein_42 rfl rfl ⟨h.1.symm, by rw [h.2]⟩
  · replace h := h.2 c4
    refine R_iload_n dX8_takein_8 rfl ?_
    refine R_iconst (v := 1) dX8_takein_9 (by decide) ?_
    refine R_aload_n dX8_takein_10 rfl ?_
    refine T8_geta hT dX8_takein_11 fl8_93 ⟨by decide, by decide, by decide⟩ ?_
    refine R_bipush (v := 18) dX8_takein_14 (by decide) ?_
    refine R_iload_n dX8_takein_16 rfl ?_
    refine R_iadd dX8_takein_17 ?_
    have b5 := h.1
    replace h := h.2
    refine T8_iald (x := σ_1.2.1 59 (18 + v1).toNatClampNeg) hT dX8_takein_18 ⟨by decide, rfl⟩ b5 rfl ?_
    refine T8_callS [.int v2, .int 1, .int (σ_1.2.1 59 (18 + v1).toNatClampNeg)] dX8_takein_19 cs8_417 rfl rfl (Nat.le_of_ble_eq_true rfl) (st8_isIn (d + 1) v2 1 (σ_1.2.1 59 (18 + v1).toNatClampNeg)) ?_
    show RnH [] G l mX8_takein (d + 3) (fun v hp1 => v = r ∧ hp1 = tw T σ1 hp) noX 22 (.ref T :: [.int v1, .int v2]) [.int (s8_isIn v2 1 (σ_1.2.1 59 (18 + v1).toNatClampNeg))] (tw T σ_1 hp) 0 0
    refine R_if_eq 41 dX8_takein_22 (by decide) (fun c6 => ?_) (fun c6 => ?_)
    · replace h := h.1 c6
      refine R_iconst (v := (-1)) dX8_takein_41 (by decide) ?_
      exact R_iret dX8_takein_42 rfl rfl ⟨h.1.symm, by rw [h.2]⟩
    · replace h := h.2 c6
      refine R_aload_n dX8_takein_25 rfl ?_
      refine T8_geta hT dX8_takein_26 fl8_93 ⟨by decide, by decide, by decide⟩ ?_
      refine R_bipush (v := 24) dX8_takein_29 (by decide) ?_
      refine R_iload_n dX8_takein_31 rfl ?_
      refine R_iadd dX8_takein_32 ?_
      have b7 := h.1
      replace h := h.2
      refine T8_iald (x := σ_1.2.1 59 (24 + v1).toNatClampNeg) hT dX8_takein_33 ⟨by decide, rfl⟩ b7 rfl ?_
      refine R_iload_n dX8_takein_34 rfl ?_
      refine R_iadd dX8_takein_35 ?_
      refine R_bipush (v := 99) dX8_takein_36 (by decide) ?_
      refine R_icmp_le 43 dX8_takein_38 (by decide) (fun c8 => ?_) (fun c8 => ?_)
      · replace h := h.1 c8
        refine R_aload_n dX8_takein_43 rfl ?_
        obtain ⟨σ_9, e10, h⟩ := h
        refine T8_call [] hK hT dX8_takein_44 cv8_458 rfl rfl rfl (Nat.le_of_ble_eq_true rfl) e10 ?_
        show RnH [] G l mX8_takein (d + 3) (fun v hp1 => v = r ∧ hp1 = tw T σ1 hp) noX 47 (.ref T :: [.int v1, .int v2]) [] (tw T σ_9 hp) 0 0
        refine R_aload_n dX8_takein_47 rfl ?_
        refine T8_geta hT dX8_takein_48 fl8_93 ⟨by decide, by decide, by decide⟩ ?_
        refine R_bipush (v := 24) dX8_takein_51 (by decide) ?_
        refine R_iload_n dX8_takein_53 rfl ?_
        refine R_iadd dX8_takein_54 ?_
        refine R_dup2 dX8_takein_55 rfl rfl ?_
        refine T8_iald (x := σ_9.2.1 59 (24 + v1).toNatClampNeg) hT dX8_takein_56 ⟨by decide, rfl⟩ b7 rfl ?_
        refine R_iload_n dX8_takein_57 rfl ?_
        refine R_iadd dX8_takein_58 ?_
        refine T8_iast (σ9 := (σ_9.1, upA σ_9.2.1 59 (upd (σ_9.2.1 59) (24 + v1).toNatClampNeg ((σ_9.2.1 59 (24 + v1).toNatClampNeg) + v2)), σ_9.2.2.1, σ_9.2.2.2)) hK hT dX8_takein_59 ⟨by decide, rfl⟩ b7 rfl ?_
        refine R_aload_n dX8_takein_60 rfl ?_
        refine T8_geta hT dX8_takein_61 fl8_93 ⟨by decide, by decide, by decide⟩ ?_
        refine R_bipush (v := 18) dX8_takein_64 (by decide) ?_
        refine R_iload_n dX8_takein_66 rfl ?_
        refine R_iadd dX8_takein_67 ?_
        refine R_dup2 dX8_takein_68 rfl rfl ?_
        refine T8_iald (x := (upd (σ_9.2.1 59) (24 + v1).toNatClampNeg ((σ_9.2.1 59 (24 + v1).toNatClampNeg) + v2)) (18 + v1).toNatClampNeg) hT dX8_takein_69 ⟨by decide, rfl⟩ b5 rfl ?_
        refine R_iload_n dX8_takein_70 rfl ?_
        refine R_isub dX8_takein_71 ?_
        refine T8_iast (σ9 := (σ_9.1, upA σ_9.2.1 59 (upd (upd (σ_9.2.1 59) (24 + v1).toNatClampNeg ((σ_9.2.1 59 (24 + v1).toNatClampNeg) + v2)) (18 + v1).toNatClampNeg (((upd (σ_9.2.1 59) (24 + v1).toNatClampNeg ((σ_9.2.1 59 (24 + v1).toNatClampNeg) + v2)) (18 + v1).toNatClampNeg) - v2)), σ_9.2.2.1, σ_9.2.2.2)) hK hT dX8_takein_72 ⟨by decide, rfl⟩ b5 (up9 σ_9.1 σ_9.2.1 59 (upd (σ_9.2.1 59) (24 + v1).toNatClampNeg ((σ_9.2.1 59 (24 + v1).toNatClampNeg) + v2)) (upd (upd (σ_9.2.1 59) (24 + v1).toNatClampNeg ((σ_9.2.1 59 (24 + v1).toNatClampNeg) + v2)) (18 + v1).toNatClampNeg (((upd (σ_9.2.1 59) (24 + v1).toNatClampNeg ((σ_9.2.1 59 (24 + v1).toNatClampNeg) + v2)) (18 + v1).toNatClampNeg) - v2)) σ_9.2.2.1 σ_9.2.2.2) ?_
        refine R_aload_n dX8_takein_73 rfl ?_
        refine T8_geta hT dX8_takein_74 fl8_93 ⟨by decide, by decide, by decide⟩ ?_
        refine R_bipush (v := 18) dX8_takein_77 (by decide) ?_
        refine R_iload_n dX8_takein_79 rfl ?_
        refine R_iadd dX8_takein_80 ?_
        refine T8_iald (x := (upd (upd (σ_9.2.1 59) (24 + v1).toNatClampNeg ((σ_9.2.1 59 (24 + v1).toNatClampNeg) + v2)) (18 + v1).toNatClampNeg (((upd (σ_9.2.1 59) (24 + v1).toNatClampNeg ((σ_9.2.1 59 (24 + v1).toNatClampNeg) + v2)) (18 + v1).toNatClampNeg) - v2)) (18 + v1).toNatClampNeg) hT dX8_takein_81 ⟨by decide, rfl⟩ b5 rfl ?_
        exact R_iret dX8_takein_82 rfl rfl ⟨h.1.symm, by rw [h.2]⟩
      · replace h := h.2 c8
        refine R_iconst (v := (-1)) dX8_takein_41 (by decide) ?_
        exact R_iret dX8_takein_42 rfl rfl ⟨h.1.symm, by rw [h.2]⟩
theorem g8_toldNumber_0 {d : Nat} {v1 : Int32} {v2 : Int32} {σ σ1 : S8} {r : Option Value} (h : (((σ.1 2) ≤ 0) → (((σ.1 6) = 2) → (((σ.1 8) < v1) → ∃ σ_4 : S8, Tw8 mX8_wrong (d + 2) [.int 4] σ none σ_4 ∧ (((¬ (σ_4.1 2) = 0) → r = some (.int (σ_4.1 8)) ∧ σ1 = σ_4) ∧ (((σ_4.1 2) = 0) → ∃ σ_7 : S8, Tw8 mX8_token (d + 2) [] σ_4 none σ_7 ∧ (r = some (.int (σ_4.1 8)) ∧ σ1 = σ_7)))) ∧ ((¬ (σ.1 8) < v1) → (((σ.1 8) ≤ v2) → ((¬ (σ.1 2) = 0) → r = some (.int (σ.1 8)) ∧ σ1 = σ) ∧ (((σ.1 2) = 0) → ∃ σ_11 : S8, Tw8 mX8_token (d + 2) [] σ none σ_11 ∧ (r = some (.int (σ.1 8)) ∧ σ1 = σ_11))) ∧ ((¬ (σ.1 8) ≤ v2) → ∃ σ_13 : S8, Tw8 mX8_wrong (d + 2) [.int 4] σ none σ_13 ∧ (((¬ (σ_13.1 2) = 0) → r = some (.int (σ_13.1 8)) ∧ σ1 = σ_13) ∧ (((σ_13.1 2) = 0) → ∃ σ_16 : S8, Tw8 mX8_token (d + 2) [] σ_13 none σ_16 ∧ (r = some (.int (σ_13.1 8)) ∧ σ1 = σ_16)))))) ∧ ((¬ (σ.1 6) = 2) → ∃ σ_18 : S8, Tw8 mX8_wrong (d + 2) [.int 2] σ none σ_18 ∧ (((¬ (σ_18.1 2) = 0) → r = some (.int (σ_18.1 8)) ∧ σ1 = σ_18) ∧ (((σ_18.1 2) = 0) → ∃ σ_21 : S8, Tw8 mX8_token (d + 2) [] σ_18 none σ_21 ∧ (r = some (.int (σ_18.1 8)) ∧ σ1 = σ_21))))) ∧ ((¬ (σ.1 2) ≤ 0) → r = some (.int 0) ∧ σ1 = σ)) : Rn8 mX8_toldNumber (d + 3) 0 [.int v1, .int v2, U_] (fun T => []) σ r σ1 := by
  intro G l T hp hK hT
  refine R_aload_n dX8_toldNumber_0 rfl ?_
  refine T8_get (x := σ.1 2) hT dX8_toldNumber_1 fl8_179 ⟨by decide, rfl⟩ rfl ?_
  refine R_if_le 9 dX8_toldNumber_4 (by decide) (fun c1 => ?_) (fun c1 => ?_)
  · replace h := h.1 c1
    refine R_aload_n dX8_toldNumber_9 rfl ?_
    refine T8_get (x := σ.1 6) hT dX8_toldNumber_10 fl8_166 ⟨by decide, rfl⟩ rfl ?_
    refine R_iconst (v := 2) dX8_toldNumber_13 (by decide) ?_
    refine R_icmp_eq 25 dX8_toldNumber_14 (by decide) (fun c2 => ?_) (fun c2 => ?_)
    · replace h := h.1 c2
      refine R_aload_n dX8_toldNumber_25 rfl ?_
      refine T8_get (x := σ.1 8) hT dX8_toldNumber_26 fl8_163 ⟨by decide, rfl⟩ rfl ?_
      refine R_iload_n dX8_toldNumber_29 rfl ?_
      refine R_icmp_lt 41 dX8_toldNumber_30 (by decide) (fun c3 => ?_) (fun c3 => ?_)
      · replace h := h.1 c3
        refine R_aload_n dX8_toldNumber_41 rfl ?_
        refine R_iconst (v := 4) dX8_toldNumber_42 (by decide) ?_
        obtain ⟨σ_4, e5, h⟩ := h
        refine T8_call [.int 4] hK hT dX8_toldNumber_43 cv8_232 rfl rfl rfl (Nat.le_of_ble_eq_true rfl) e5 ?_
        show RnH [] G l mX8_toldNumber (d + 3) (fun v hp1 => v = r ∧ hp1 = tw T σ1 hp) noX 46 (.ref T :: [.int v1, .int v2, U_]) [] (tw T σ_4 hp) 0 0
        refine R_aload_n dX8_toldNumber_46 rfl ?_
        refine T8_get (x := σ_4.1 8) hT dX8_toldNumber_47 fl8_163 ⟨by decide, rfl⟩ rfl ?_
        refine S_istore_n (ls1 := .ref T :: [.int v1, .int v2, .int (σ_4.1 8)]) dX8_toldNumber_50 (by decide) rfl rfl ?_
        refine R_aload_n dX8_toldNumber_51 rfl ?_
        refine T8_get (x := σ_4.1 2) hT dX8_toldNumber_52 fl8_179 ⟨by decide, rfl⟩ rfl ?_
        refine R_if_ne 62 dX8_toldNumber_55 (by decide) (fun c6 => ?_) (fun c6 => ?_)
        · replace h := h.1 c6
          refine R_iload_n dX8_toldNumber_62 rfl ?_
          exact R_iret dX8_toldNumber_63 rfl rfl ⟨h.1.symm, by rw [h.2]⟩
        · replace h := h.2 c6
          refine R_aload_n dX8_toldNumber_58 rfl ?_
          obtain ⟨σ_7, e8, h⟩ := h
          refine T8_call [] hK hT dX8_toldNumber_59 cv8_235 rfl rfl rfl (Nat.le_of_ble_eq_true rfl) e8 ?_
          show RnH [] G l mX8_toldNumber (d + 3) (fun v hp1 => v = r ∧ hp1 = tw T σ1 hp) noX 62 (.ref T :: [.int v1, .int v2, .int (σ_4.1 8)]) [] (tw T σ_7 hp) 0 0
          refine R_iload_n dX8_toldNumber_62 rfl ?_
          exact R_iret dX8_toldNumber_63 rfl rfl ⟨h.1.symm, by rw [h.2]⟩
      · replace h := h.2 c3
        refine R_aload_n dX8_toldNumber_33 rfl ?_
        refine T8_get (x := σ.1 8) hT dX8_toldNumber_34 fl8_163 ⟨by decide, rfl⟩ rfl ?_
        refine R_iload_n dX8_toldNumber_37 rfl ?_
        refine R_icmp_le 46 dX8_toldNumber_38 (by decide) (fun c9 => ?_) (fun c9 => ?_)
        · replace h := h.1 c9
          refine R_aload_n dX8_toldNumber_46 rfl ?_
          refine T8_get (x := σ.1 8) hT dX8_toldNumber_47 fl8_163 ⟨by decide, rfl⟩ rfl ?_
          refine S_istore_n (ls1 := .ref T :: [.int v1, .int v2, .int (σ.1 8)]) dX8_toldNumber_50 (by decide) rfl rfl ?_
          refine R_aload_n dX8_toldNumber_51 rfl ?_
          refine T8_get (x := σ.1 2) hT dX8_toldNumber_52 fl8_179 ⟨by decide, rfl⟩ rfl ?_
          refine R_if_ne 62 dX8_toldNumber_55 (by decide) (fun c10 => ?_) (fun c10 => ?_)
          · replace h := h.1 c10
            refine R_iload_n dX8_toldNumber_62 rfl ?_
            exact R_iret dX8_toldNumber_63 rfl rfl ⟨h.1.symm, by rw [h.2]⟩
          · replace h := h.2 c10
            refine R_aload_n dX8_toldNumber_58 rfl ?_
            obtain ⟨σ_11, e12, h⟩ := h
            refine T8_call [] hK hT dX8_toldNumber_59 cv8_235 rfl rfl rfl (Nat.le_of_ble_eq_true rfl) e12 ?_
            show RnH [] G l mX8_toldNumber (d + 3) (fun v hp1 => v = r ∧ hp1 = tw T σ1 hp) noX 62 (.ref T :: [.int v1, .int v2, .int (σ.1 8)]) [] (tw T σ_11 hp) 0 0
            refine R_iload_n dX8_toldNumber_62 rfl ?_
            exact R_iret dX8_toldNumber_63 rfl rfl ⟨h.1.symm, by rw [h.2]⟩
        · replace h := h.2 c9
          refine R_aload_n dX8_toldNumber_41 rfl ?_
          refine R_iconst (v := 4) dX8_toldNumber_42 (by decide) ?_
          obtain ⟨σ_13, e14, h⟩ := h
          refine T8_call [.int 4] hK hT dX8_toldNumber_43 cv8_232 rfl rfl rfl (Nat.le_of_ble_eq_true rfl) e14 ?_
          show RnH [] G l mX8_toldNumber (d + 3) (fun v hp1 => v = r ∧ hp1 = tw T σ1 hp) noX 46 (.ref T :: [.int v1, .int v2, U_]) [] (tw T σ_13 hp) 0 0
          refine R_aload_n dX8_toldNumber_46 rfl ?_
          refine T8_get (x := σ_13.1 8) hT dX8_toldNumber_47 fl8_163 ⟨by decide, rfl⟩ rfl ?_
          refine S_istore_n (ls1 := .ref T :: [.int v1, .int v2, .int (σ_13.1 8)]) dX8_toldNumber_50 (by decide) rfl rfl ?_
          refine R_aload_n dX8_toldNumber_51 rfl ?_
          refine T8_get (x := σ_13.1 2) hT dX8_toldNumber_52 fl8_179 ⟨by decide, rfl⟩ rfl ?_
          refine R_if_ne 62 dX8_toldNumber_55 (by decide) (fun c15 => ?_) (fun c15 => ?_)
          · replace h := h.1 c15
            refine R_iload_n dX8_toldNumber_62 rfl ?_
            exact R_iret dX8_toldNumber_63 rfl rfl ⟨h.1.symm, by rw [h.2]⟩
          · replace h := h.2 c15
            refine R_aload_n dX8_toldNumber_58 rfl ?_
            obtain ⟨σ_16, e17, h⟩ := h
            refine T8_call [] hK hT dX8_toldNumber_59 cv8_235 rfl rfl rfl (Nat.le_of_ble_eq_true rfl) e17 ?_
            show RnH [] G l mX8_toldNumber (d + 3) (fun v hp1 => v = r ∧ hp1 = tw T σ1 hp) noX 62 (.ref T :: [.int v1, .int v2, .int (σ_13.1 8)]) [] (tw T σ_16 hp) 0 0
            refine R_iload_n dX8_toldNumber_62 rfl ?_
            exact R_iret dX8_toldNumber_63 rfl rfl ⟨h.1.symm, by rw [h.2]⟩
    · replace h := h.2 c2
      refine R_aload_n dX8_toldNumber_17 rfl ?_
      refine R_iconst (v := 2) dX8_toldNumber_18 (by decide) ?_
      obtain ⟨σ_18, e19, h⟩ := h
      refine T8_call [.int 2] hK hT dX8_toldNumber_19 cv8_232 rfl rfl rfl (Nat.le_of_ble_eq_true rfl) e19 ?_
      show RnH [] G l mX8_toldNumber (d + 3) (fun v hp1 => v = r ∧ hp1 = tw T σ1 hp) noX 22 (.ref T :: [.int v1, .int v2, U_]) [] (tw T σ_18 hp) 0 0
      refine R_goto 46 dX8_toldNumber_22 (by decide) ?_
      refine R_aload_n dX8_toldNumber_46 rfl ?_
      refine T8_get (x := σ_18.1 8) hT dX8_toldNumber_47 fl8_163 ⟨by decide, rfl⟩ rfl ?_
      refine S_istore_n (ls1 := .ref T :: [.int v1, .int v2, .int (σ_18.1 8)]) dX8_toldNumber_50 (by decide) rfl rfl ?_
      refine R_aload_n dX8_toldNumber_51 rfl ?_
      refine T8_get (x := σ_18.1 2) hT dX8_toldNumber_52 fl8_179 ⟨by decide, rfl⟩ rfl ?_
      refine R_if_ne 62 dX8_toldNumber_55 (by decide) (fun c20 => ?_) (fun c20 => ?_)
      · replace h := h.1 c20
        refine R_iload_n dX8_toldNumber_62 rfl ?_
        exact R_iret dX8_toldNumber_63 rfl rfl ⟨h.1.symm, by rw [h.2]⟩
      · replace h := h.2 c20
        refine R_aload_n dX8_toldNumber_58 rfl ?_
        obtain ⟨σ_21, e22, h⟩ := h
        refine T8_call [] hK hT dX8_toldNumber_59 cv8_235 rfl rfl rfl (Nat.le_of_ble_eq_true rfl) e22 ?_
        show RnH [] G l mX8_toldNumber (d + 3) (fun v hp1 => v = r ∧ hp1 = tw T σ1 hp) noX 62 (.ref T :: [.int v1, .int v2, .int (σ_18.1 8)]) [] (tw T σ_21 hp) 0 0
        refine R_iload_n dX8_toldNumber_62 rfl ?_
        exact R_iret dX8_toldNumber_63 rfl rfl ⟨h.1.symm, by rw [h.2]⟩
  · replace h := h.2 c1
    refine R_iconst (v := 0) dX8_toldNumber_7 (by decide) ?_
    exact R_iret dX8_toldNumber_8 rfl rfl ⟨h.1.symm, by rw [h.2]⟩
theorem g8_turn_0 {d : Nat} {v1 : Int32} {σ σ1 : S8} {r : Option Value} (h : ∃ (r3 : Int32) (σ_1 : S8), Tw8 mX8_isCoat (d + 2) [.int v1] σ (some (.int r3)) σ_1 ∧ (((r3 = 0) → r = some (.int (-1)) ∧ σ1 = σ_1) ∧ ((¬ r3 = 0) → ((¬ (((σ_1.2.1 59 36) >>> (v1 &&& 31)) &&& 1) = 1) → ∃ σ_6 : S8, Tw8 mX8_act (d + 2) [] σ_1 none σ_6 ∧ (vp_in (30 + v1) 39 ∧ (r = some (.int (σ_6.2.1 59 (30 + v1).toNatClampNeg)) ∧ σ1 = (σ_6.1, upA σ_6.2.1 59 (upd (upd (σ_6.2.1 59) (30 + v1).toNatClampNeg 0) 36 (((upd (σ_6.2.1 59) (30 + v1).toNatClampNeg 0) 36) ||| (1 <<< (v1 &&& 31)))), σ_6.2.2.1, σ_6.2.2.2)))) ∧ (((((σ_1.2.1 59 36) >>> (v1 &&& 31)) &&& 1) = 1) → r = some (.int (-1)) ∧ σ1 = σ_1)))) : Rn8 mX8_turn (d + 3) 0 [.int v1, U_] (fun T => []) σ r σ1 := by
  intro G l T hp hK hT
  refine R_aload_n dX8_turn_0 rfl ?_
  refine R_iload_n dX8_turn_1 rfl ?_
  obtain ⟨r3, σ_1, e2, h⟩ := h
  refine T8_call [.int v1] hK hT dX8_turn_2 cv8_455 rfl rfl rfl (Nat.le_of_ble_eq_true rfl) e2 ?_
  show RnH [] G l mX8_turn (d + 3) (fun v hp1 => v = r ∧ hp1 = tw T σ1 hp) noX 5 (.ref T :: [.int v1, U_]) [.int r3] (tw T σ_1 hp) 0 0
  refine R_if_eq 23 dX8_turn_5 (by decide) (fun c4 => ?_) (fun c4 => ?_)
  · replace h := h.1 c4
    refine R_iconst (v := (-1)) dX8_turn_23 (by decide) ?_
    exact R_iret dX8_turn_24 rfl rfl ⟨h.1.symm, by rw [h.2]⟩
  · replace h := h.2 c4
    refine R_aload_n dX8_turn_8 rfl ?_
    refine T8_geta hT dX8_turn_9 fl8_93 ⟨by decide, by decide, by decide⟩ ?_
    refine R_bipush (v := 36) dX8_turn_12 (by decide) ?_
    refine T8_iald (x := σ_1.2.1 59 36) hT dX8_turn_14 ⟨by decide, rfl⟩ (by unfold vp_in; decide) rfl ?_
    refine R_iload_n dX8_turn_15 rfl ?_
    refine R_ishr dX8_turn_16 ?_
    refine R_iconst (v := 1) dX8_turn_17 (by decide) ?_
    refine R_iand dX8_turn_18 ?_
    refine R_iconst (v := 1) dX8_turn_19 (by decide) ?_
    refine R_icmp_ne 25 dX8_turn_20 (by decide) (fun c5 => ?_) (fun c5 => ?_)
    · replace h := h.1 c5
      refine R_aload_n dX8_turn_25 rfl ?_
      obtain ⟨σ_6, e7, h⟩ := h
      refine T8_call [] hK hT dX8_turn_26 cv8_458 rfl rfl rfl (Nat.le_of_ble_eq_true rfl) e7 ?_
      show RnH [] G l mX8_turn (d + 3) (fun v hp1 => v = r ∧ hp1 = tw T σ1 hp) noX 29 (.ref T :: [.int v1, U_]) [] (tw T σ_6 hp) 0 0
      refine R_aload_n dX8_turn_29 rfl ?_
      refine T8_geta hT dX8_turn_30 fl8_93 ⟨by decide, by decide, by decide⟩ ?_
      refine R_bipush (v := 30) dX8_turn_33 (by decide) ?_
      refine R_iload_n dX8_turn_35 rfl ?_
      refine R_iadd dX8_turn_36 ?_
      have b8 := h.1
      replace h := h.2
      refine T8_iald (x := σ_6.2.1 59 (30 + v1).toNatClampNeg) hT dX8_turn_37 ⟨by decide, rfl⟩ b8 rfl ?_
      refine S_istore_n (ls1 := .ref T :: [.int v1, .int (σ_6.2.1 59 (30 + v1).toNatClampNeg)]) dX8_turn_38 (by decide) rfl rfl ?_
      refine R_aload_n dX8_turn_39 rfl ?_
      refine T8_geta hT dX8_turn_40 fl8_93 ⟨by decide, by decide, by decide⟩ ?_
      refine R_bipush (v := 30) dX8_turn_43 (by decide) ?_
      refine R_iload_n dX8_turn_45 rfl ?_
      refine R_iadd dX8_turn_46 ?_
      refine R_iconst (v := 0) dX8_turn_47 (by decide) ?_
      refine T8_iast (σ9 := (σ_6.1, upA σ_6.2.1 59 (upd (σ_6.2.1 59) (30 + v1).toNatClampNeg 0), σ_6.2.2.1, σ_6.2.2.2)) hK hT dX8_turn_48 ⟨by decide, rfl⟩ b8 rfl ?_
      refine R_aload_n dX8_turn_49 rfl ?_
      refine T8_geta hT dX8_turn_50 fl8_93 ⟨by decide, by decide, by decide⟩ ?_
      refine R_bipush (v := 36) dX8_turn_53 (by decide) ?_
      refine R_dup2 dX8_turn_55 rfl rfl ?_
      refine T8_iald (x := (upd (σ_6.2.1 59) (30 + v1).toNatClampNeg 0) 36) hT dX8_turn_56 ⟨by decide, rfl⟩ (by unfold vp_in; decide) rfl ?_
      refine R_iconst (v := 1) dX8_turn_57 (by decide) ?_
      refine R_iload_n dX8_turn_58 rfl ?_
      refine R_ishl dX8_turn_59 ?_
      refine R_ior dX8_turn_60 ?_
      refine T8_iast (σ9 := (σ_6.1, upA σ_6.2.1 59 (upd (upd (σ_6.2.1 59) (30 + v1).toNatClampNeg 0) 36 (((upd (σ_6.2.1 59) (30 + v1).toNatClampNeg 0) 36) ||| (1 <<< (v1 &&& 31)))), σ_6.2.2.1, σ_6.2.2.2)) hK hT dX8_turn_61 ⟨by decide, rfl⟩ (by unfold vp_in; decide) (up9 σ_6.1 σ_6.2.1 59 (upd (σ_6.2.1 59) (30 + v1).toNatClampNeg 0) (upd (upd (σ_6.2.1 59) (30 + v1).toNatClampNeg 0) 36 (((upd (σ_6.2.1 59) (30 + v1).toNatClampNeg 0) 36) ||| (1 <<< (v1 &&& 31)))) σ_6.2.2.1 σ_6.2.2.2) ?_
      refine R_iload_n dX8_turn_62 rfl ?_
      exact R_iret dX8_turn_63 rfl rfl ⟨h.1.symm, by rw [h.2]⟩
    · replace h := h.2 c5
      refine R_iconst (v := (-1)) dX8_turn_23 (by decide) ?_
      exact R_iret dX8_turn_24 rfl rfl ⟨h.1.symm, by rw [h.2]⟩
theorem g8_want_0 {d : Nat} {v1 : Int64} {σ σ1 : S8} {r : Option Value} (h : (((σ.1 2) ≤ 0) → ∃ (r4 : Int32) (σ_2 : S8), Tw8 mX8_isWord (d + 2) [.long v1] σ (some (.int r4)) σ_2 ∧ (((¬ r4 = 0) → ∃ σ_6 : S8, Tw8 mX8_token (d + 2) [] σ_2 none σ_6 ∧ (r = none ∧ σ1 = σ_6)) ∧ ((r4 = 0) → ∃ σ_8 : S8, Tw8 mX8_wrong (d + 2) [.int 2] σ_2 none σ_8 ∧ (r = none ∧ σ1 = σ_8)))) ∧ ((¬ (σ.1 2) ≤ 0) → r = none ∧ σ1 = σ)) : Rn8 mX8_want (d + 3) 0 [.long v1, U_] (fun T => []) σ r σ1 := by
  intro G l T hp hK hT
  refine R_aload_n dX8_want_0 rfl ?_
  refine T8_get (x := σ.1 2) hT dX8_want_1 fl8_179 ⟨by decide, rfl⟩ rfl ?_
  refine R_if_le 8 dX8_want_4 (by decide) (fun c1 => ?_) (fun c1 => ?_)
  · replace h := h.1 c1
    refine R_aload_n dX8_want_8 rfl ?_
    refine R_lload_n dX8_want_9 rfl ?_
    obtain ⟨r4, σ_2, e3, h⟩ := h
    refine T8_call [.long v1] hK hT dX8_want_10 cv8_228 rfl rfl rfl (Nat.le_of_ble_eq_true rfl) e3 ?_
    show RnH [] G l mX8_want (d + 3) (fun v hp1 => v = r ∧ hp1 = tw T σ1 hp) noX 13 (.ref T :: [.long v1, U_]) [.int r4] (tw T σ_2 hp) 0 0
    refine R_if_ne 24 dX8_want_13 (by decide) (fun c5 => ?_) (fun c5 => ?_)
    · replace h := h.1 c5
      refine R_aload_n dX8_want_24 rfl ?_
      obtain ⟨σ_6, e7, h⟩ := h
      refine T8_call [] hK hT dX8_want_25 cv8_235 rfl rfl rfl (Nat.le_of_ble_eq_true rfl) e7 ?_
      show RnH [] G l mX8_want (d + 3) (fun v hp1 => v = r ∧ hp1 = tw T σ1 hp) noX 28 (.ref T :: [.long v1, U_]) [] (tw T σ_6 hp) 0 0
      exact R_vret dX8_want_28 rfl ⟨h.1.symm, by rw [h.2]⟩
    · replace h := h.2 c5
      refine R_aload_n dX8_want_16 rfl ?_
      refine R_iconst (v := 2) dX8_want_17 (by decide) ?_
      obtain ⟨σ_8, e9, h⟩ := h
      refine T8_call [.int 2] hK hT dX8_want_18 cv8_232 rfl rfl rfl (Nat.le_of_ble_eq_true rfl) e9 ?_
      show RnH [] G l mX8_want (d + 3) (fun v hp1 => v = r ∧ hp1 = tw T σ1 hp) noX 21 (.ref T :: [.long v1, U_]) [] (tw T σ_8 hp) 0 0
      refine R_goto 28 dX8_want_21 (by decide) ?_
      exact R_vret dX8_want_28 rfl ⟨h.1.symm, by rw [h.2]⟩
  · replace h := h.2 c1
    exact R_vret dX8_want_7 rfl ⟨h.1.symm, by rw [h.2]⟩
theorem g8_wings_0 {d : Nat} {v1 : Int32} {σ σ1 : S8} {r : Option Value} (h : ((¬ (s8_isIn v1 0 1) = 0) → ∃ σ_2 : S8, Tw8 mX8_fill (d + 2) [] σ none σ_2 ∧ (∃ (r6 : Int32) (σ_4 : S8), Tw8 mX8_wearers (d + 2) [] σ_2 (some (.int r6)) σ_4 ∧ (Rn8 mX8_wings (d + 3) 25 [.int v1, .int r6, .int 0, .int 5, U_, U_, U_] (fun T => []) σ_4 r σ1))) ∧ (((s8_isIn v1 0 1) = 0) → r = some (.int (-1)) ∧ σ1 = σ)) : Rn8 mX8_wings (d + 3) 0 [.int v1, U_, U_, U_, U_, U_, U_] (fun T => []) σ r σ1 := by
  intro G l T hp hK hT
  refine R_iload_n dX8_wings_0 rfl ?_
  refine R_iconst (v := 0) dX8_wings_1 (by decide) ?_
  refine R_iconst (v := 1) dX8_wings_2 (by decide) ?_
  refine T8_callS [.int v1, .int 0, .int 1] dX8_wings_3 cs8_417 rfl rfl (Nat.le_of_ble_eq_true rfl) (st8_isIn (d + 1) v1 0 1) ?_
  show RnH [] G l mX8_wings (d + 3) (fun v hp1 => v = r ∧ hp1 = tw T σ1 hp) noX 6 (.ref T :: [.int v1, U_, U_, U_, U_, U_, U_]) [.int (s8_isIn v1 0 1)] (tw T σ hp) 0 0
  refine R_if_ne 11 dX8_wings_6 (by decide) (fun c1 => ?_) (fun c1 => ?_)
  · replace h := h.1 c1
    refine R_aload_n dX8_wings_11 rfl ?_
    obtain ⟨σ_2, e3, h⟩ := h
    refine T8_call [] hK hT dX8_wings_12 cv8_449 rfl rfl rfl (Nat.le_of_ble_eq_true rfl) e3 ?_
    show RnH [] G l mX8_wings (d + 3) (fun v hp1 => v = r ∧ hp1 = tw T σ1 hp) noX 15 (.ref T :: [.int v1, U_, U_, U_, U_, U_, U_]) [] (tw T σ_2 hp) 0 0
    refine R_aload_n dX8_wings_15 rfl ?_
    obtain ⟨r6, σ_4, e5, h⟩ := h
    refine T8_call [] hK hT dX8_wings_16 cv8_440 rfl rfl rfl (Nat.le_of_ble_eq_true rfl) e5 ?_
    show RnH [] G l mX8_wings (d + 3) (fun v hp1 => v = r ∧ hp1 = tw T σ1 hp) noX 19 (.ref T :: [.int v1, U_, U_, U_, U_, U_, U_]) [.int r6] (tw T σ_4 hp) 0 0
    refine S_istore_n (ls1 := .ref T :: [.int v1, .int r6, U_, U_, U_, U_, U_]) dX8_wings_19 (by decide) rfl rfl ?_
    refine R_iconst (v := 0) dX8_wings_20 (by decide) ?_
    refine S_istore_n (ls1 := .ref T :: [.int v1, .int r6, .int 0, U_, U_, U_, U_]) dX8_wings_21 (by decide) rfl rfl ?_
    refine R_iconst (v := 5) dX8_wings_22 (by decide) ?_
    refine S_istore (ls1 := .ref T :: [.int v1, .int r6, .int 0, .int 5, U_, U_, U_]) dX8_wings_23 (by decide) rfl rfl ?_
    exact h G l T hp hK hT
  · replace h := h.2 c1
    refine R_iconst (v := (-1)) dX8_wings_9 (by decide) ?_
    exact R_iret dX8_wings_10 rfl rfl ⟨h.1.symm, by rw [h.2]⟩
theorem g8_wings_25 {d : Nat} {v1 : Int32} {v2 : Int32} {v3 : Int32} {v4 : Int32} {σ σ1 : S8} {r : Option Value} (h : ((v4 < 0) → ∃ (r4 : Int32) (σ_2 : S8), Tw8 mX8_wideOf (d + 2) [.int v2] σ (some (.int r4)) σ_2 ∧ (Rn8 mX8_wings (d + 3) 68 [.int v1, .int v2, .int v3, .int v2, .int r4, .int 0, U_] (fun T => []) σ_2 r σ1)) ∧ ((¬ v4 < 0) → Rn8 mX8_wings (d + 3) 25 [.int v1, .int v2, .int (if ((v2 >>> (v4 &&& 31)) &&& 1) = 1 then 1 <<< (v4 &&& 31) else v3), .int (v4 + (-1)), U_, U_, U_] (fun T => []) σ r σ1)) : Rn8 mX8_wings (d + 3) 25 [.int v1, .int v2, .int v3, .int v4, U_, U_, U_] (fun T => []) σ r σ1 := by
  intro G l T hp hK hT
  refine R_iload dX8_wings_25 rfl ?_
  refine R_if_lt 55 dX8_wings_27 (by decide) (fun c1 => ?_) (fun c1 => ?_)
  · replace h := h.1 c1
    refine R_iload_n dX8_wings_55 rfl ?_
    refine S_istore (ls1 := .ref T :: [.int v1, .int v2, .int v3, .int v2, U_, U_, U_]) dX8_wings_56 (by decide) rfl rfl ?_
    refine R_aload_n dX8_wings_58 rfl ?_
    refine R_iload_n dX8_wings_59 rfl ?_
    obtain ⟨r4, σ_2, e3, h⟩ := h
    refine T8_call [.int v2] hK hT dX8_wings_60 cv8_492 rfl rfl rfl (Nat.le_of_ble_eq_true rfl) e3 ?_
    show RnH [] G l mX8_wings (d + 3) (fun v hp1 => v = r ∧ hp1 = tw T σ1 hp) noX 63 (.ref T :: [.int v1, .int v2, .int v3, .int v2, U_, U_, U_]) [.int r4] (tw T σ_2 hp) 0 0
    refine S_istore (ls1 := .ref T :: [.int v1, .int v2, .int v3, .int v2, .int r4, U_, U_]) dX8_wings_63 (by decide) rfl rfl ?_
    refine R_iconst (v := 0) dX8_wings_65 (by decide) ?_
    refine S_istore (ls1 := .ref T :: [.int v1, .int v2, .int v3, .int v2, .int r4, .int 0, U_]) dX8_wings_66 (by decide) rfl rfl ?_
    exact h G l T hp hK hT
  · replace h := h.2 c1
    refine R_iload_n dX8_wings_30 rfl ?_
    refine R_iload dX8_wings_31 rfl ?_
    refine R_ishr dX8_wings_33 ?_
    refine R_iconst (v := 1) dX8_wings_34 (by decide) ?_
    refine R_iand dX8_wings_35 ?_
    refine R_iconst (v := 1) dX8_wings_36 (by decide) ?_
    have J5 : RnH [] G l mX8_wings (d + 3) (fun v hp1 => v = r ∧ hp1 = tw T σ1 hp) noX 48 (.ref T :: [.int v1, .int v2, .int v3, .int v4, U_, U_, U_]) [.int (if ((v2 >>> (v4 &&& 31)) &&& 1) = 1 then 1 <<< (v4 &&& 31) else v3)] (tw T σ hp) 0 0 := by
      refine S_istore_n (ls1 := .ref T :: [.int v1, .int v2, .int (if ((v2 >>> (v4 &&& 31)) &&& 1) = 1 then 1 <<< (v4 &&& 31) else v3), .int v4, U_, U_, U_]) dX8_wings_48 (by decide) rfl rfl ?_
      refine S_iinc (v := v4 + (-1)) (ls1 := .ref T :: [.int v1, .int v2, .int (if ((v2 >>> (v4 &&& 31)) &&& 1) = 1 then 1 <<< (v4 &&& 31) else v3), .int (v4 + (-1)), U_, U_, U_]) dX8_wings_49 rfl rfl (by decide) rfl rfl ?_
      refine R_goto 25 dX8_wings_52 (by decide) ?_
      exact h G l T hp hK hT
    refine R_icmp_ne 47 dX8_wings_37 (by decide) (fun c7 => ?_) (fun c7 => ?_)
    · refine R_iload_n dX8_wings_47 rfl ?_
      simp only [if_neg c7] at J5
      first | exact J5 | (simp only [if_neg c7]; exact J5)
    · refine R_iconst (v := 1) dX8_wings_40 (by decide) ?_
      refine R_iload dX8_wings_41 rfl ?_
      refine R_ishl dX8_wings_43 ?_
      refine R_goto 48 dX8_wings_44 (by decide) ?_
      simp only [if_pos c7] at J5
      first | exact J5 | (simp only [if_pos c7]; exact J5)
theorem g8_wings_68 {d : Nat} {v1 : Int32} {v2 : Int32} {v3 : Int32} {v4 : Int32} {v5 : Int32} {v6 : Int32} {σ σ1 : S8} {r : Option Value} (h : ((v2 < v6) → r = some (.int (if v1 = 0 then v5 else v4)) ∧ σ1 = σ) ∧ ((¬ v2 < v6) → ((¬ (v6 &&& (v2 ^^^ (-1))) = 0) → Rn8 mX8_wings (d + 3) 68 [.int v1, .int v2, .int v3, .int v4, .int v5, .int (v6 + 1), U_] (fun T => []) σ r σ1) ∧ (((v6 &&& (v2 ^^^ (-1))) = 0) → (((v6 &&& v3) = v3) → ∃ (r9 : Int32) (σ_7 : S8), Tw8 mX8_wideOf (d + 2) [.int v6] σ (some (.int r9)) σ_7 ∧ (∃ (r12 : Int32) (σ_10 : S8), Tw8 mX8_wideOf (d + 2) [.int (v2 &&& (v6 ^^^ (-1)))] σ_7 (some (.int r12)) σ_10 ∧ (((v5 < (s8_plain (r9 - r12))) → Rn8 mX8_wings (d + 3) 68 [.int v1, .int v2, .int v3, .int v4, .int v5, .int (v6 + 1), U_] (fun T => []) σ_10 r σ1) ∧ ((¬ v5 < (s8_plain (r9 - r12))) → ((¬ (s8_plain (r9 - r12)) = v5) → Rn8 mX8_wings (d + 3) 68 [.int v1, .int v2, .int v3, .int v6, .int (s8_plain (r9 - r12)), .int (v6 + 1), U_] (fun T => []) σ_10 r σ1) ∧ (((s8_plain (r9 - r12)) = v5) → ((v6 < v4) → Rn8 mX8_wings (d + 3) 68 [.int v1, .int v2, .int v3, .int v6, .int (s8_plain (r9 - r12)), .int (v6 + 1), U_] (fun T => []) σ_10 r σ1) ∧ ((¬ v6 < v4) → Rn8 mX8_wings (d + 3) 68 [.int v1, .int v2, .int v3, .int v4, .int v5, .int (v6 + 1), U_] (fun T => []) σ_10 r σ1)))))) ∧ ((¬ (v6 &&& v3) = v3) → Rn8 mX8_wings (d + 3) 68 [.int v1, .int v2, .int v3, .int v4, .int v5, .int (v6 + 1), U_] (fun T => []) σ r σ1)))) : Rn8 mX8_wings (d + 3) 68 [.int v1, .int v2, .int v3, .int v4, .int v5, .int v6, U_] (fun T => []) σ r σ1 := by
  intro G l T hp hK hT
  refine R_iload dX8_wings_68 rfl ?_
  refine R_iload_n dX8_wings_70 rfl ?_
  refine R_icmp_gt 154 dX8_wings_71 (by decide) (fun c1 => ?_) (fun c1 => ?_)
  · replace h := h.1 c1
    refine R_iload_n dX8_wings_154 rfl ?_
    have J2 : RnH [] G l mX8_wings (d + 3) (fun v hp1 => v = r ∧ hp1 = tw T σ1 hp) noX 165 (.ref T :: [.int v1, .int v2, .int v3, .int v4, .int v5, .int v6, U_]) [.int (if v1 = 0 then v5 else v4)] (tw T σ hp) 0 0 := by
      exact R_iret dX8_wings_165 rfl rfl ⟨h.1.symm, by rw [h.2]⟩
    refine R_if_ne 163 dX8_wings_155 (by decide) (fun c4 => ?_) (fun c4 => ?_)
    · refine R_iload dX8_wings_163 rfl ?_
      simp only [if_neg c4] at J2
      first | exact J2 | (simp only [if_neg c4]; exact J2)
    · refine R_iload dX8_wings_158 rfl ?_
      refine R_goto 165 dX8_wings_160 (by decide) ?_
      simp only [if_pos c4] at J2
      first | exact J2 | (simp only [if_pos c4]; exact J2)
  · replace h := h.2 c1
    refine R_iload dX8_wings_74 rfl ?_
    refine R_iload_n dX8_wings_76 rfl ?_
    refine R_iconst (v := (-1)) dX8_wings_77 (by decide) ?_
    refine R_ixor dX8_wings_78 ?_
    refine R_iand dX8_wings_79 ?_
    refine R_if_ne 148 dX8_wings_80 (by decide) (fun c5 => ?_) (fun c5 => ?_)
    · replace h := h.1 c5
      refine S_iinc (v := v6 + 1) (ls1 := .ref T :: [.int v1, .int v2, .int v3, .int v4, .int v5, .int (v6 + 1), U_]) dX8_wings_148 rfl rfl (by decide) rfl rfl ?_
      refine R_goto 68 dX8_wings_151 (by decide) ?_
      exact h G l T hp hK hT
    · replace h := h.2 c5
      refine R_iload dX8_wings_83 rfl ?_
      refine R_iload_n dX8_wings_85 rfl ?_
      refine R_iand dX8_wings_86 ?_
      refine R_iload_n dX8_wings_87 rfl ?_
      refine R_icmp_eq 94 dX8_wings_88 (by decide) (fun c6 => ?_) (fun c6 => ?_)
      · replace h := h.1 c6
        refine R_aload_n dX8_wings_94 rfl ?_
        refine R_iload dX8_wings_95 rfl ?_
        obtain ⟨r9, σ_7, e8, h⟩ := h
        refine T8_call [.int v6] hK hT dX8_wings_97 cv8_492 rfl rfl rfl (Nat.le_of_ble_eq_true rfl) e8 ?_
        show RnH [] G l mX8_wings (d + 3) (fun v hp1 => v = r ∧ hp1 = tw T σ1 hp) noX 100 (.ref T :: [.int v1, .int v2, .int v3, .int v4, .int v5, .int v6, U_]) [.int r9] (tw T σ_7 hp) 0 0
        refine R_aload_n dX8_wings_100 rfl ?_
        refine R_iload_n dX8_wings_101 rfl ?_
        refine R_iload dX8_wings_102 rfl ?_
        refine R_iconst (v := (-1)) dX8_wings_104 (by decide) ?_
        refine R_ixor dX8_wings_105 ?_
        refine R_iand dX8_wings_106 ?_
        obtain ⟨r12, σ_10, e11, h⟩ := h
        refine T8_call [.int (v2 &&& (v6 ^^^ (-1)))] hK hT dX8_wings_107 cv8_492 rfl rfl rfl (Nat.le_of_ble_eq_true rfl) e11 ?_
        show RnH [] G l mX8_wings (d + 3) (fun v hp1 => v = r ∧ hp1 = tw T σ1 hp) noX 110 (.ref T :: [.int v1, .int v2, .int v3, .int v4, .int v5, .int v6, U_]) [.int r12, .int r9] (tw T σ_10 hp) 0 0
        refine R_isub dX8_wings_110 ?_
        refine T8_callS [.int (r9 - r12)] dX8_wings_111 cs8_495 rfl rfl (Nat.le_of_ble_eq_true rfl) (st8_plain (d + 1) (r9 - r12)) ?_
        show RnH [] G l mX8_wings (d + 3) (fun v hp1 => v = r ∧ hp1 = tw T σ1 hp) noX 114 (.ref T :: [.int v1, .int v2, .int v3, .int v4, .int v5, .int v6, U_]) [.int (s8_plain (r9 - r12))] (tw T σ_10 hp) 0 0
        refine S_istore (ls1 := .ref T :: [.int v1, .int v2, .int v3, .int v4, .int v5, .int v6, .int (s8_plain (r9 - r12))]) dX8_wings_114 (by decide) rfl rfl ?_
        refine R_iload dX8_wings_116 rfl ?_
        refine R_iload dX8_wings_118 rfl ?_
        refine R_icmp_gt 148 dX8_wings_120 (by decide) (fun c13 => ?_) (fun c13 => ?_)
        · replace h := h.1 c13
          refine S_iinc (v := v6 + 1) (ls1 := .ref T :: [.int v1, .int v2, .int v3, .int v4, .int v5, .int (v6 + 1), .int (s8_plain (r9 - r12))]) dX8_wings_148 rfl rfl (by decide) rfl rfl ?_
          refine R_goto 68 dX8_wings_151 (by decide) ?_
          refine R_drop 7 ?_
          exact h G l T hp hK hT
        · replace h := h.2 c13
          refine R_iload dX8_wings_123 rfl ?_
          refine R_iload dX8_wings_125 rfl ?_
          refine R_icmp_ne 140 dX8_wings_127 (by decide) (fun c14 => ?_) (fun c14 => ?_)
          · replace h := h.1 c14
            refine R_iload dX8_wings_140 rfl ?_
            refine S_istore (ls1 := .ref T :: [.int v1, .int v2, .int v3, .int v4, .int (s8_plain (r9 - r12)), .int v6, .int (s8_plain (r9 - r12))]) dX8_wings_142 (by decide) rfl rfl ?_
            refine R_iload dX8_wings_144 rfl ?_
            refine S_istore (ls1 := .ref T :: [.int v1, .int v2, .int v3, .int v6, .int (s8_plain (r9 - r12)), .int v6, .int (s8_plain (r9 - r12))]) dX8_wings_146 (by decide) rfl rfl ?_
            refine S_iinc (v := v6 + 1) (ls1 := .ref T :: [.int v1, .int v2, .int v3, .int v6, .int (s8_plain (r9 - r12)), .int (v6 + 1), .int (s8_plain (r9 - r12))]) dX8_wings_148 rfl rfl (by decide) rfl rfl ?_
            refine R_goto 68 dX8_wings_151 (by decide) ?_
            refine R_drop 7 ?_
            exact h G l T hp hK hT
          · replace h := h.2 c14
            refine R_iload dX8_wings_130 rfl ?_
            refine R_iload dX8_wings_132 rfl ?_
            refine R_icmp_lt 140 dX8_wings_134 (by decide) (fun c15 => ?_) (fun c15 => ?_)
            · replace h := h.1 c15
              refine R_iload dX8_wings_140 rfl ?_
              refine S_istore (ls1 := .ref T :: [.int v1, .int v2, .int v3, .int v4, .int (s8_plain (r9 - r12)), .int v6, .int (s8_plain (r9 - r12))]) dX8_wings_142 (by decide) rfl rfl ?_
              refine R_iload dX8_wings_144 rfl ?_
              refine S_istore (ls1 := .ref T :: [.int v1, .int v2, .int v3, .int v6, .int (s8_plain (r9 - r12)), .int v6, .int (s8_plain (r9 - r12))]) dX8_wings_146 (by decide) rfl rfl ?_
              refine S_iinc (v := v6 + 1) (ls1 := .ref T :: [.int v1, .int v2, .int v3, .int v6, .int (s8_plain (r9 - r12)), .int (v6 + 1), .int (s8_plain (r9 - r12))]) dX8_wings_148 rfl rfl (by decide) rfl rfl ?_
              refine R_goto 68 dX8_wings_151 (by decide) ?_
              refine R_drop 7 ?_
              exact h G l T hp hK hT
            · replace h := h.2 c15
              refine R_goto 148 dX8_wings_137 (by decide) ?_
              refine S_iinc (v := v6 + 1) (ls1 := .ref T :: [.int v1, .int v2, .int v3, .int v4, .int v5, .int (v6 + 1), .int (s8_plain (r9 - r12))]) dX8_wings_148 rfl rfl (by decide) rfl rfl ?_
              refine R_goto 68 dX8_wings_151 (by decide) ?_
              refine R_drop 7 ?_
              exact h G l T hp hK hT
      · replace h := h.2 c6
        refine R_goto 148 dX8_wings_91 (by decide) ?_
        refine S_iinc (v := v6 + 1) (ls1 := .ref T :: [.int v1, .int v2, .int v3, .int v4, .int v5, .int (v6 + 1), U_]) dX8_wings_148 rfl rfl (by decide) rfl rfl ?_
        refine R_goto 68 dX8_wings_151 (by decide) ?_
        exact h G l T hp hK hT
theorem g8_buttons_0 {d : Nat} {σ σ1 : S8} {r : Option Value} (h : Rn8 mX8_buttons (d + 4) 10 [.int 1, U_, U_] (fun T => []) (upd σ.1 67 (σ.1 48), σ.2.1, σ.2.2.1, σ.2.2.2) r σ1) : Rn8 mX8_buttons (d + 4) 0 [U_, U_, U_] (fun T => []) σ r σ1 := by
  intro G l T hp hK hT
  refine R_aload_n dX8_buttons_0 rfl ?_
  refine R_aload_n dX8_buttons_1 rfl ?_
  refine T8_get (x := σ.1 48) hT dX8_buttons_2 fl8_387 ⟨by decide, rfl⟩ rfl ?_
  refine T8_put (σ9 := (upd σ.1 67 (σ.1 48), σ.2.1, σ.2.2.1, σ.2.2.2)) hK hT dX8_buttons_5 fl8_414 ft8_67 rfl rfl ⟨by decide, rfl⟩ rfl ?_
  refine R_iconst (v := 1) dX8_buttons_8 (by decide) ?_
  refine S_istore_n (ls1 := .ref T :: [.int 1, U_, U_]) dX8_buttons_9 (by decide) rfl rfl ?_
  exact h G l T hp hK hT
theorem g8_buttons_10 {d : Nat} {v1 : Int32} {σ σ1 : S8} {r : Option Value} (h : (((σ.1 48) < v1) → r = some (.int 0) ∧ σ1 = σ) ∧ ((¬ (σ.1 48) < v1) → Rn8 mX8_buttons (d + 4) 20 [.int v1, .int 0, U_] (fun T => []) σ r σ1)) : Rn8 mX8_buttons (d + 4) 10 [.int v1, U_, U_] (fun T => []) σ r σ1 := by
  intro G l T hp hK hT
  refine R_iload_n dX8_buttons_10 rfl ?_
  refine R_aload_n dX8_buttons_11 rfl ?_
  refine T8_get (x := σ.1 48) hT dX8_buttons_12 fl8_387 ⟨by decide, rfl⟩ rfl ?_
  refine R_icmp_gt 86 dX8_buttons_15 (by decide) (fun c1 => ?_) (fun c1 => ?_)
  · replace h := h.1 c1
    refine R_iconst (v := 0) dX8_buttons_86 (by decide) ?_
    exact R_iret dX8_buttons_87 rfl rfl ⟨h.1.symm, by rw [h.2]⟩
  · replace h := h.2 c1
    refine R_iconst (v := 0) dX8_buttons_18 (by decide) ?_
    refine S_istore_n (ls1 := .ref T :: [.int v1, .int 0, U_]) dX8_buttons_19 (by decide) rfl rfl ?_
    exact h G l T hp hK hT
theorem g8_buttons_20 {d : Nat} {v1 : Int32} {v2 : Int32} {σ σ1 : S8} {r : Option Value} (h : (((s8_power v1 (σ.1 48)) ≤ v2) → Rn8 mX8_buttons (d + 4) 10 [.int (v1 + 1), U_, U_] (fun T => []) σ r σ1) ∧ ((¬ (s8_power v1 (σ.1 48)) ≤ v2) → ∃ (r4 : Int32) (σ_2 : S8), Tw8 mX8_layColours (d + 3) [.int v1, .int v2] σ (some (.int r4)) σ_2 ∧ (((¬ r4 = 0) → Rn8 mX8_buttons (d + 4) 46 [.int v1, .int v2, .int 0] (fun T => []) σ_2 r σ1) ∧ ((r4 = 0) → Rn8 mX8_buttons (d + 4) 20 [.int v1, .int (v2 + 1), U_] (fun T => []) σ_2 r σ1)))) : Rn8 mX8_buttons (d + 4) 20 [.int v1, .int v2, U_] (fun T => []) σ r σ1 := by
  intro G l T hp hK hT
  refine R_iload_n dX8_buttons_20 rfl ?_
  refine R_iload_n dX8_buttons_21 rfl ?_
  refine R_aload_n dX8_buttons_22 rfl ?_
  refine T8_get (x := σ.1 48) hT dX8_buttons_23 fl8_387 ⟨by decide, rfl⟩ rfl ?_
  refine T8_callS [.int v1, .int (σ.1 48)] dX8_buttons_26 cs8_473 rfl rfl (Nat.le_of_ble_eq_true rfl) (st8_power (d + 2) v1 (σ.1 48)) ?_
  show RnH [] G l mX8_buttons (d + 4) (fun v hp1 => v = r ∧ hp1 = tw T σ1 hp) noX 29 (.ref T :: [.int v1, .int v2, U_]) [.int (s8_power v1 (σ.1 48)), .int v2] (tw T σ hp) 0 0
  refine R_icmp_ge 80 dX8_buttons_29 (by decide) (fun c1 => ?_) (fun c1 => ?_)
  · replace h := h.1 c1
    refine S_iinc (v := v1 + 1) (ls1 := .ref T :: [.int (v1 + 1), .int v2, U_]) dX8_buttons_80 rfl rfl (by decide) rfl rfl ?_
    refine R_goto 10 dX8_buttons_83 (by decide) ?_
    refine R_drop 2 ?_
    exact h G l T hp hK hT
  · replace h := h.2 c1
    refine R_aload_n dX8_buttons_32 rfl ?_
    refine R_iload_n dX8_buttons_33 rfl ?_
    refine R_iload_n dX8_buttons_34 rfl ?_
    obtain ⟨r4, σ_2, e3, h⟩ := h
    refine T8_call [.int v1, .int v2] hK hT dX8_buttons_35 cv8_505 rfl rfl rfl (Nat.le_of_ble_eq_true rfl) e3 ?_
    show RnH [] G l mX8_buttons (d + 4) (fun v hp1 => v = r ∧ hp1 = tw T σ1 hp) noX 38 (.ref T :: [.int v1, .int v2, U_]) [.int r4] (tw T σ_2 hp) 0 0
    refine R_if_ne 44 dX8_buttons_38 (by decide) (fun c5 => ?_) (fun c5 => ?_)
    · replace h := h.1 c5
      refine R_iconst (v := 0) dX8_buttons_44 (by decide) ?_
      refine S_istore_n (ls1 := .ref T :: [.int v1, .int v2, .int 0]) dX8_buttons_45 (by decide) rfl rfl ?_
      exact h G l T hp hK hT
    · replace h := h.2 c5
      refine R_goto 74 dX8_buttons_41 (by decide) ?_
      refine S_iinc (v := v2 + 1) (ls1 := .ref T :: [.int v1, .int (v2 + 1), U_]) dX8_buttons_74 rfl rfl (by decide) rfl rfl ?_
      refine R_goto 20 dX8_buttons_77 (by decide) ?_
      exact h G l T hp hK hT
theorem g8_buttons_46 {d : Nat} {v1 : Int32} {v2 : Int32} {v3 : Int32} {σ σ1 : S8} {r : Option Value} (h : (((σ.1 48) ≤ v3) → r = some (.int v1) ∧ σ1 = σ) ∧ ((¬ (σ.1 48) ≤ v3) → vp_in v3 6 ∧ (Rn8 mX8_buttons (d + 4) 46 [.int v1, .int v2, .int (v3 + 1)] (fun T => []) (σ.1, upA σ.2.1 64 (upd (σ.2.1 64) v3.toNatClampNeg (σ.2.1 65 v3.toNatClampNeg)), σ.2.2.1, σ.2.2.2) r σ1))) : Rn8 mX8_buttons (d + 4) 46 [.int v1, .int v2, .int v3] (fun T => []) σ r σ1 := by
  intro G l T hp hK hT
  refine R_iload_n dX8_buttons_46 rfl ?_
  refine R_aload_n dX8_buttons_47 rfl ?_
  refine T8_get (x := σ.1 48) hT dX8_buttons_48 fl8_387 ⟨by decide, rfl⟩ rfl ?_
  refine R_icmp_ge 72 dX8_buttons_51 (by decide) (fun c1 => ?_) (fun c1 => ?_)
  · replace h := h.1 c1
    refine R_iload_n dX8_buttons_72 rfl ?_
    exact R_iret dX8_buttons_73 rfl rfl ⟨h.1.symm, by rw [h.2]⟩
  · replace h := h.2 c1
    refine R_aload_n dX8_buttons_54 rfl ?_
    refine T8_geta hT dX8_buttons_55 fl8_102 ⟨by decide, by decide, by decide⟩ ?_
    refine R_iload_n dX8_buttons_58 rfl ?_
    refine R_aload_n dX8_buttons_59 rfl ?_
    refine T8_geta hT dX8_buttons_60 fl8_105 ⟨by decide, by decide, by decide⟩ ?_
    refine R_iload_n dX8_buttons_63 rfl ?_
    have b2 := h.1
    replace h := h.2
    refine T8_iald (x := σ.2.1 65 v3.toNatClampNeg) hT dX8_buttons_64 ⟨by decide, rfl⟩ b2 rfl ?_
    refine T8_iast (σ9 := (σ.1, upA σ.2.1 64 (upd (σ.2.1 64) v3.toNatClampNeg (σ.2.1 65 v3.toNatClampNeg)), σ.2.2.1, σ.2.2.2)) hK hT dX8_buttons_65 ⟨by decide, rfl⟩ b2 rfl ?_
    refine S_iinc (v := v3 + 1) (ls1 := .ref T :: [.int v1, .int v2, .int (v3 + 1)]) dX8_buttons_66 rfl rfl (by decide) rfl rfl ?_
    refine R_goto 46 dX8_buttons_69 (by decide) ?_
    exact h G l T hp hK hT
theorem g8_fits_0 {d : Nat} {v1 : Int32} {v2 : Int32} {σ σ1 : S8} {r : Option Value} (h : ((v2 < 0) → r = some (.int 0) ∧ σ1 = σ) ∧ ((¬ v2 < 0) → ∃ (r4 : Int32) (σ_2 : S8), Tw8 mX8_misfitOf (d + 3) [.int v1, .int v2] σ (some (.int r4)) σ_2 ∧ (r = some (.int (if (σ_2.1 50) < r4 then 0 else 1)) ∧ σ1 = σ_2))) : Rn8 mX8_fits (d + 4) 0 [.int v1, .int v2] (fun T => []) σ r σ1 := by
  intro G l T hp hK hT
  refine R_iload_n dX8_fits_0 rfl ?_
  refine R_if_lt 21 dX8_fits_1 (by decide) (fun c1 => ?_) (fun c1 => ?_)
  · replace h := h.1 c1
    refine R_iconst (v := 0) dX8_fits_21 (by decide) ?_
    exact R_iret dX8_fits_22 rfl rfl ⟨h.1.symm, by rw [h.2]⟩
  · replace h := h.2 c1
    refine R_aload_n dX8_fits_4 rfl ?_
    refine R_iload_n dX8_fits_5 rfl ?_
    refine R_iload_n dX8_fits_6 rfl ?_
    obtain ⟨r4, σ_2, e3, h⟩ := h
    refine T8_call [.int v1, .int v2] hK hT dX8_fits_7 cv8_421 rfl rfl rfl (Nat.le_of_ble_eq_true rfl) e3 ?_
    show RnH [] G l mX8_fits (d + 4) (fun v hp1 => v = r ∧ hp1 = tw T σ1 hp) noX 10 (.ref T :: [.int v1, .int v2]) [.int r4] (tw T σ_2 hp) 0 0
    refine R_aload_n dX8_fits_10 rfl ?_
    refine T8_get (x := σ_2.1 50) hT dX8_fits_11 fl8_84 ⟨by decide, rfl⟩ rfl ?_
    have J5 : RnH [] G l mX8_fits (d + 4) (fun v hp1 => v = r ∧ hp1 = tw T σ1 hp) noX 22 (.ref T :: [.int v1, .int v2]) [.int (if (σ_2.1 50) < r4 then 0 else 1)] (tw T σ_2 hp) 0 0 := by
      exact R_iret dX8_fits_22 rfl (by show isB _; repeat (first | exact isB_0 | exact isB_1 | refine isB_if ?_ ?_)) ⟨h.1.symm, by rw [h.2]⟩
    refine R_icmp_gt 21 dX8_fits_14 (by decide) (fun c7 => ?_) (fun c7 => ?_)
    · refine R_iconst (v := 0) dX8_fits_21 (by decide) ?_
      simp only [if_pos c7] at J5
      first | exact J5 | (simp only [if_pos c7]; exact J5)
    · refine R_iconst (v := 1) dX8_fits_17 (by decide) ?_
      refine R_goto 22 dX8_fits_18 (by decide) ?_
      simp only [if_neg c7] at J5
      first | exact J5 | (simp only [if_neg c7]; exact J5)
theorem g8_isSewn_0 {d : Nat} {v1 : Int32} {v2 : Int32} {v3 : Int32} {v4 : Int32} {σ σ1 : S8} {r : Option Value} (h : ∃ σ_1 : S8, Tw8 mX8_fill (d + 3) [] σ none σ_1 ∧ (vp_in (12 + v1) 39 ∧ (vp_in (18 + v1) 39 ∧ (∃ (r7 : Int32) (σ_5 : S8), Tw8 mX8_misfitOf (d + 3) [.int v2, .int v1] (σ_1.1, upA σ_1.2.1 60 (upd (upd (σ_1.2.1 60) (12 + v1).toNatClampNeg ((σ_1.2.1 60 (12 + v1).toNatClampNeg) - v3)) (18 + v1).toNatClampNeg (((upd (σ_1.2.1 60) (12 + v1).toNatClampNeg ((σ_1.2.1 60 (12 + v1).toNatClampNeg) - v3)) (18 + v1).toNatClampNeg) - v4)), σ_1.2.2.1, σ_1.2.2.2) (some (.int r7)) σ_5 ∧ (r = some (.int (if (σ_5.1 50) < r7 then 0 else 1)) ∧ σ1 = σ_5))))) : Rn8 mX8_isSewn (d + 4) 0 [.int v1, .int v2, .int v3, .int v4] (fun T => []) σ r σ1 := by
  intro G l T hp hK hT
  refine R_aload_n dX8_isSewn_0 rfl ?_
  obtain ⟨σ_1, e2, h⟩ := h
  refine T8_call [] hK hT dX8_isSewn_1 cv8_449 rfl rfl rfl (Nat.le_of_ble_eq_true rfl) e2 ?_
  show RnH [] G l mX8_isSewn (d + 4) (fun v hp1 => v = r ∧ hp1 = tw T σ1 hp) noX 4 (.ref T :: [.int v1, .int v2, .int v3, .int v4]) [] (tw T σ_1 hp) 0 0
  refine R_aload_n dX8_isSewn_4 rfl ?_
  refine T8_geta hT dX8_isSewn_5 fl8_96 ⟨by decide, by decide, by decide⟩ ?_
  refine R_bipush (v := 12) dX8_isSewn_8 (by decide) ?_
  refine R_iload_n dX8_isSewn_10 rfl ?_
  refine R_iadd dX8_isSewn_11 ?_
  refine R_dup2 dX8_isSewn_12 rfl rfl ?_
  have b3 := h.1
  replace h := h.2
  refine T8_iald (x := σ_1.2.1 60 (12 + v1).toNatClampNeg) hT dX8_isSewn_13 ⟨by decide, rfl⟩ b3 rfl ?_
  refine R_iload_n dX8_isSewn_14 rfl ?_
  refine R_isub dX8_isSewn_15 ?_
  refine T8_iast (σ9 := (σ_1.1, upA σ_1.2.1 60 (upd (σ_1.2.1 60) (12 + v1).toNatClampNeg ((σ_1.2.1 60 (12 + v1).toNatClampNeg) - v3)), σ_1.2.2.1, σ_1.2.2.2)) hK hT dX8_isSewn_16 ⟨by decide, rfl⟩ b3 rfl ?_
  refine R_aload_n dX8_isSewn_17 rfl ?_
  refine T8_geta hT dX8_isSewn_18 fl8_96 ⟨by decide, by decide, by decide⟩ ?_
  refine R_bipush (v := 18) dX8_isSewn_21 (by decide) ?_
  refine R_iload_n dX8_isSewn_23 rfl ?_
  refine R_iadd dX8_isSewn_24 ?_
  refine R_dup2 dX8_isSewn_25 rfl rfl ?_
  have b4 := h.1
  replace h := h.2
  refine T8_iald (x := (upd (σ_1.2.1 60) (12 + v1).toNatClampNeg ((σ_1.2.1 60 (12 + v1).toNatClampNeg) - v3)) (18 + v1).toNatClampNeg) hT dX8_isSewn_26 ⟨by decide, rfl⟩ b4 rfl ?_
  refine R_iload dX8_isSewn_27 rfl ?_
  refine R_isub dX8_isSewn_29 ?_
  refine T8_iast (σ9 := (σ_1.1, upA σ_1.2.1 60 (upd (upd (σ_1.2.1 60) (12 + v1).toNatClampNeg ((σ_1.2.1 60 (12 + v1).toNatClampNeg) - v3)) (18 + v1).toNatClampNeg (((upd (σ_1.2.1 60) (12 + v1).toNatClampNeg ((σ_1.2.1 60 (12 + v1).toNatClampNeg) - v3)) (18 + v1).toNatClampNeg) - v4)), σ_1.2.2.1, σ_1.2.2.2)) hK hT dX8_isSewn_30 ⟨by decide, rfl⟩ b4 (up9 σ_1.1 σ_1.2.1 60 (upd (σ_1.2.1 60) (12 + v1).toNatClampNeg ((σ_1.2.1 60 (12 + v1).toNatClampNeg) - v3)) (upd (upd (σ_1.2.1 60) (12 + v1).toNatClampNeg ((σ_1.2.1 60 (12 + v1).toNatClampNeg) - v3)) (18 + v1).toNatClampNeg (((upd (σ_1.2.1 60) (12 + v1).toNatClampNeg ((σ_1.2.1 60 (12 + v1).toNatClampNeg) - v3)) (18 + v1).toNatClampNeg) - v4)) σ_1.2.2.1 σ_1.2.2.2) ?_
  refine R_aload_n dX8_isSewn_31 rfl ?_
  refine R_iload_n dX8_isSewn_32 rfl ?_
  refine R_iload_n dX8_isSewn_33 rfl ?_
  obtain ⟨r7, σ_5, e6, h⟩ := h
  refine T8_call [.int v2, .int v1] hK hT dX8_isSewn_34 cv8_421 rfl rfl rfl (Nat.le_of_ble_eq_true rfl) e6 ?_
  show RnH [] G l mX8_isSewn (d + 4) (fun v hp1 => v = r ∧ hp1 = tw T σ1 hp) noX 37 (.ref T :: [.int v1, .int v2, .int v3, .int v4]) [.int r7] (tw T σ_5 hp) 0 0
  refine R_aload_n dX8_isSewn_37 rfl ?_
  refine T8_get (x := σ_5.1 50) hT dX8_isSewn_38 fl8_84 ⟨by decide, rfl⟩ rfl ?_
  have J8 : RnH [] G l mX8_isSewn (d + 4) (fun v hp1 => v = r ∧ hp1 = tw T σ1 hp) noX 49 (.ref T :: [.int v1, .int v2, .int v3, .int v4]) [.int (if (σ_5.1 50) < r7 then 0 else 1)] (tw T σ_5 hp) 0 0 := by
    exact R_iret dX8_isSewn_49 rfl (by show isB _; repeat (first | exact isB_0 | exact isB_1 | refine isB_if ?_ ?_)) ⟨h.1.symm, by rw [h.2]⟩
  refine R_icmp_gt 48 dX8_isSewn_41 (by decide) (fun c10 => ?_) (fun c10 => ?_)
  · refine R_iconst (v := 0) dX8_isSewn_48 (by decide) ?_
    simp only [if_pos c10] at J8
    first | exact J8 | (simp only [if_pos c10]; exact J8)
  · refine R_iconst (v := 1) dX8_isSewn_44 (by decide) ?_
    refine R_goto 49 dX8_isSewn_45 (by decide) ?_
    simp only [if_neg c10] at J8
    first | exact J8 | (simp only [if_neg c10]; exact J8)
theorem g8_layIlls_0 {d : Nat} {σ σ1 : S8} {r : Option Value} (h : ∃ σ_1 : S8, Tw8 mX8_fill (d + 3) [] σ none σ_1 ∧ (Rn8 mX8_layIlls (d + 4) 6 [.int 0, U_] (fun T => []) σ_1 r σ1)) : Rn8 mX8_layIlls (d + 4) 0 [U_, U_] (fun T => []) σ r σ1 := by
  intro G l T hp hK hT
  refine R_aload_n dX8_layIlls_0 rfl ?_
  obtain ⟨σ_1, e2, h⟩ := h
  refine T8_call [] hK hT dX8_layIlls_1 cv8_449 rfl rfl rfl (Nat.le_of_ble_eq_true rfl) e2 ?_
  show RnH [] G l mX8_layIlls (d + 4) (fun v hp1 => v = r ∧ hp1 = tw T σ1 hp) noX 4 (.ref T :: [U_, U_]) [] (tw T σ_1 hp) 0 0
  refine R_iconst (v := 0) dX8_layIlls_4 (by decide) ?_
  refine S_istore_n (ls1 := .ref T :: [.int 0, U_]) dX8_layIlls_5 (by decide) rfl rfl ?_
  exact h G l T hp hK hT
theorem g8_layIlls_6 {d : Nat} {v1 : Int32} {σ σ1 : S8} {r : Option Value} (h : (((σ.1 48) ≤ v1) → r = none ∧ σ1 = σ) ∧ ((¬ (σ.1 48) ≤ v1) → Rn8 mX8_layIlls (d + 4) 16 [.int v1, .int 0] (fun T => []) σ r σ1)) : Rn8 mX8_layIlls (d + 4) 6 [.int v1, U_] (fun T => []) σ r σ1 := by
  intro G l T hp hK hT
  refine R_iload_n dX8_layIlls_6 rfl ?_
  refine R_aload_n dX8_layIlls_7 rfl ?_
  refine T8_get (x := σ.1 48) hT dX8_layIlls_8 fl8_387 ⟨by decide, rfl⟩ rfl ?_
  refine R_icmp_ge 53 dX8_layIlls_11 (by decide) (fun c1 => ?_) (fun c1 => ?_)
  · replace h := h.1 c1
    exact R_vret dX8_layIlls_53 rfl ⟨h.1.symm, by rw [h.2]⟩
  · replace h := h.2 c1
    refine R_iconst (v := 0) dX8_layIlls_14 (by decide) ?_
    refine S_istore_n (ls1 := .ref T :: [.int v1, .int 0]) dX8_layIlls_15 (by decide) rfl rfl ?_
    exact h G l T hp hK hT
theorem g8_layIlls_16 {d : Nat} {v1 : Int32} {v2 : Int32} {σ σ1 : S8} {r : Option Value} (h : (((σ.1 49) ≤ v2) → Rn8 mX8_layIlls (d + 4) 6 [.int (v1 + 1), U_] (fun T => []) σ r σ1) ∧ ((¬ (σ.1 49) ≤ v2) → ∃ (r4 : Int32) (σ_2 : S8), Tw8 mX8_misfitOf (d + 3) [.int v1, .int v2] σ (some (.int r4)) σ_2 ∧ (vp_in ((6 * v1) + v2) 36 ∧ (Rn8 mX8_layIlls (d + 4) 16 [.int v1, .int (v2 + 1)] (fun T => []) (σ_2.1, upA σ_2.2.1 66 (upd (σ_2.2.1 66) ((6 * v1) + v2).toNatClampNeg r4), σ_2.2.2.1, σ_2.2.2.2) r σ1)))) : Rn8 mX8_layIlls (d + 4) 16 [.int v1, .int v2] (fun T => []) σ r σ1 := by
  intro G l T hp hK hT
  refine R_iload_n dX8_layIlls_16 rfl ?_
  refine R_aload_n dX8_layIlls_17 rfl ?_
  refine T8_get (x := σ.1 49) hT dX8_layIlls_18 fl8_390 ⟨by decide, rfl⟩ rfl ?_
  refine R_icmp_ge 47 dX8_layIlls_21 (by decide) (fun c1 => ?_) (fun c1 => ?_)
  · replace h := h.1 c1
    refine S_iinc (v := v1 + 1) (ls1 := .ref T :: [.int (v1 + 1), .int v2]) dX8_layIlls_47 rfl rfl (by decide) rfl rfl ?_
    refine R_goto 6 dX8_layIlls_50 (by decide) ?_
    refine R_drop 2 ?_
    exact h G l T hp hK hT
  · replace h := h.2 c1
    refine R_aload_n dX8_layIlls_24 rfl ?_
    refine T8_geta hT dX8_layIlls_25 fl8_108 ⟨by decide, by decide, by decide⟩ ?_
    refine R_bipush (v := 6) dX8_layIlls_28 (by decide) ?_
    refine R_iload_n dX8_layIlls_30 rfl ?_
    refine R_imul dX8_layIlls_31 ?_
    refine R_iload_n dX8_layIlls_32 rfl ?_
    refine R_iadd dX8_layIlls_33 ?_
    refine R_aload_n dX8_layIlls_34 rfl ?_
    refine R_iload_n dX8_layIlls_35 rfl ?_
    refine R_iload_n dX8_layIlls_36 rfl ?_
    obtain ⟨r4, σ_2, e3, h⟩ := h
    refine T8_call [.int v1, .int v2] hK hT dX8_layIlls_37 cv8_421 rfl rfl rfl (Nat.le_of_ble_eq_true rfl) e3 ?_
    show RnH [] G l mX8_layIlls (d + 4) (fun v hp1 => v = r ∧ hp1 = tw T σ1 hp) noX 40 (.ref T :: [.int v1, .int v2]) [.int r4, .int ((6 * v1) + v2), .ref (a8 T 66)] (tw T σ_2 hp) 0 0
    have b5 := h.1
    refine T8_iast (σ9 := (σ_2.1, upA σ_2.2.1 66 (upd (σ_2.2.1 66) ((6 * v1) + v2).toNatClampNeg r4), σ_2.2.2.1, σ_2.2.2.2)) hK hT dX8_layIlls_40 ⟨by decide, rfl⟩ b5 rfl ?_
    replace h := h.2
    refine S_iinc (v := v2 + 1) (ls1 := .ref T :: [.int v1, .int (v2 + 1)]) dX8_layIlls_41 rfl rfl (by decide) rfl rfl ?_
    refine R_goto 16 dX8_layIlls_44 (by decide) ?_
    exact h G l T hp hK hT
theorem g8_misfit_0 {d : Nat} {v1 : Int32} {v2 : Int32} {σ σ1 : S8} {r : Option Value} (h : ∃ σ_1 : S8, Tw8 mX8_fill (d + 3) [] σ none σ_1 ∧ (∃ (r5 : Int32) (σ_3 : S8), Tw8 mX8_isMan (d + 3) [.int v1] σ_1 (some (.int r5)) σ_3 ∧ (((r5 = 0) → r = some (.int (-1)) ∧ σ1 = σ_3) ∧ ((¬ r5 = 0) → ∃ (r9 : Int32) (σ_7 : S8), Tw8 mX8_isCoat (d + 3) [.int v2] σ_3 (some (.int r9)) σ_7 ∧ (((r9 = 0) → r = some (.int (-1)) ∧ σ1 = σ_7) ∧ ((¬ r9 = 0) → ∃ (r13 : Int32) (σ_11 : S8), Tw8 mX8_misfitOf (d + 3) [.int v1, .int v2] σ_7 (some (.int r13)) σ_11 ∧ (r = some (.int r13) ∧ σ1 = σ_11))))))) : Rn8 mX8_misfit (d + 4) 0 [.int v1, .int v2] (fun T => []) σ r σ1 := by
  intro G l T hp hK hT
  refine R_aload_n dX8_misfit_0 rfl ?_
  obtain ⟨σ_1, e2, h⟩ := h
  refine T8_call [] hK hT dX8_misfit_1 cv8_449 rfl rfl rfl (Nat.le_of_ble_eq_true rfl) e2 ?_
  show RnH [] G l mX8_misfit (d + 4) (fun v hp1 => v = r ∧ hp1 = tw T σ1 hp) noX 4 (.ref T :: [.int v1, .int v2]) [] (tw T σ_1 hp) 0 0
  refine R_aload_n dX8_misfit_4 rfl ?_
  refine R_iload_n dX8_misfit_5 rfl ?_
  obtain ⟨r5, σ_3, e4, h⟩ := h
  refine T8_call [.int v1] hK hT dX8_misfit_6 cv8_446 rfl rfl rfl (Nat.le_of_ble_eq_true rfl) e4 ?_
  show RnH [] G l mX8_misfit (d + 4) (fun v hp1 => v = r ∧ hp1 = tw T σ1 hp) noX 9 (.ref T :: [.int v1, .int v2]) [.int r5] (tw T σ_3 hp) 0 0
  refine R_if_eq 29 dX8_misfit_9 (by decide) (fun c6 => ?_) (fun c6 => ?_)
  · replace h := h.1 c6
    refine R_iconst (v := (-1)) dX8_misfit_29 (by decide) ?_
    exact R_iret dX8_misfit_30 rfl rfl ⟨h.1.symm, by rw [h.2]⟩
  · replace h := h.2 c6
    refine R_aload_n dX8_misfit_12 rfl ?_
    refine R_iload_n dX8_misfit_13 rfl ?_
    obtain ⟨r9, σ_7, e8, h⟩ := h
    refine T8_call [.int v2] hK hT dX8_misfit_14 cv8_455 rfl rfl rfl (Nat.le_of_ble_eq_true rfl) e8 ?_
    show RnH [] G l mX8_misfit (d + 4) (fun v hp1 => v = r ∧ hp1 = tw T σ1 hp) noX 17 (.ref T :: [.int v1, .int v2]) [.int r9] (tw T σ_7 hp) 0 0
    refine R_if_eq 29 dX8_misfit_17 (by decide) (fun c10 => ?_) (fun c10 => ?_)
    · replace h := h.1 c10
      refine R_iconst (v := (-1)) dX8_misfit_29 (by decide) ?_
      exact R_iret dX8_misfit_30 rfl rfl ⟨h.1.symm, by rw [h.2]⟩
    · replace h := h.2 c10
      refine R_aload_n dX8_misfit_20 rfl ?_
      refine R_iload_n dX8_misfit_21 rfl ?_
      refine R_iload_n dX8_misfit_22 rfl ?_
      obtain ⟨r13, σ_11, e12, h⟩ := h
      refine T8_call [.int v1, .int v2] hK hT dX8_misfit_23 cv8_421 rfl rfl rfl (Nat.le_of_ble_eq_true rfl) e12 ?_
      show RnH [] G l mX8_misfit (d + 4) (fun v hp1 => v = r ∧ hp1 = tw T σ1 hp) noX 26 (.ref T :: [.int v1, .int v2]) [.int r13] (tw T σ_11 hp) 0 0
      refine R_goto 30 dX8_misfit_26 (by decide) ?_
      exact R_iret dX8_misfit_30 rfl rfl ⟨h.1.symm, by rw [h.2]⟩
theorem g8_ownIll_0 {d : Nat} {v1 : Int32} {σ σ1 : S8} {r : Option Value} (h : vp_in (6 + v1) 39 ∧ (((0 ≤ (σ.2.1 60 (6 + v1).toNatClampNeg)) → ∃ (r5 : Int32) (σ_3 : S8), Tw8 mX8_misfitOf (d + 3) [.int v1, .int (σ.2.1 60 (6 + v1).toNatClampNeg)] σ (some (.int r5)) σ_3 ∧ (r = some (.int r5) ∧ σ1 = σ_3)) ∧ ((¬ 0 ≤ (σ.2.1 60 (6 + v1).toNatClampNeg)) → r = some (.int (-1)) ∧ σ1 = σ))) : Rn8 mX8_ownIll (d + 4) 0 [.int v1] (fun T => []) σ r σ1 := by
  intro G l T hp hK hT
  refine R_aload_n dX8_ownIll_0 rfl ?_
  refine T8_geta hT dX8_ownIll_1 fl8_96 ⟨by decide, by decide, by decide⟩ ?_
  refine R_bipush (v := 6) dX8_ownIll_4 (by decide) ?_
  refine R_iload_n dX8_ownIll_6 rfl ?_
  refine R_iadd dX8_ownIll_7 ?_
  have b1 := h.1
  replace h := h.2
  refine T8_iald (x := σ.2.1 60 (6 + v1).toNatClampNeg) hT dX8_ownIll_8 ⟨by decide, rfl⟩ b1 rfl ?_
  refine R_if_ge 16 dX8_ownIll_9 (by decide) (fun c2 => ?_) (fun c2 => ?_)
  · replace h := h.1 c2
    refine R_aload_n dX8_ownIll_16 rfl ?_
    refine R_iload_n dX8_ownIll_17 rfl ?_
    refine R_aload_n dX8_ownIll_18 rfl ?_
    refine T8_geta hT dX8_ownIll_19 fl8_96 ⟨by decide, by decide, by decide⟩ ?_
    refine R_bipush (v := 6) dX8_ownIll_22 (by decide) ?_
    refine R_iload_n dX8_ownIll_24 rfl ?_
    refine R_iadd dX8_ownIll_25 ?_
    refine T8_iald (x := σ.2.1 60 (6 + v1).toNatClampNeg) hT dX8_ownIll_26 ⟨by decide, rfl⟩ b1 rfl ?_
    obtain ⟨r5, σ_3, e4, h⟩ := h
    refine T8_call [.int v1, .int (σ.2.1 60 (6 + v1).toNatClampNeg)] hK hT dX8_ownIll_27 cv8_421 rfl rfl rfl (Nat.le_of_ble_eq_true rfl) e4 ?_
    show RnH [] G l mX8_ownIll (d + 4) (fun v hp1 => v = r ∧ hp1 = tw T σ1 hp) noX 30 (.ref T :: [.int v1]) [.int r5] (tw T σ_3 hp) 0 0
    exact R_iret dX8_ownIll_30 rfl rfl ⟨h.1.symm, by rw [h.2]⟩
  · replace h := h.2 c2
    refine R_iconst (v := (-1)) dX8_ownIll_12 (by decide) ?_
    refine R_goto 30 dX8_ownIll_13 (by decide) ?_
    exact R_iret dX8_ownIll_30 rfl rfl ⟨h.1.symm, by rw [h.2]⟩
theorem g8_told_0 {d : Nat} {v1 : Int64} {v3 : Int32} {σ σ1 : S8} {r : Option Value} (h : ∃ σ_1 : S8, Tw8 mX8_want (d + 3) [.long v1] σ none σ_1 ∧ (∃ (r5 : Int32) (σ_3 : S8), Tw8 mX8_toldNumber (d + 3) [.int 0, .int v3] σ_1 (some (.int r5)) σ_3 ∧ (r = some (.int r5) ∧ σ1 = σ_3))) : Rn8 mX8_told (d + 4) 0 [.long v1, U_, .int v3] (fun T => []) σ r σ1 := by
  intro G l T hp hK hT
  refine R_aload_n dX8_told_0 rfl ?_
  refine R_lload_n dX8_told_1 rfl ?_
  obtain ⟨σ_1, e2, h⟩ := h
  refine T8_call [.long v1] hK hT dX8_told_2 cv8_238 rfl rfl rfl (Nat.le_of_ble_eq_true rfl) e2 ?_
  show RnH [] G l mX8_told (d + 4) (fun v hp1 => v = r ∧ hp1 = tw T σ1 hp) noX 5 (.ref T :: [.long v1, U_, .int v3]) [] (tw T σ_1 hp) 0 0
  refine R_aload_n dX8_told_5 rfl ?_
  refine R_iconst (v := 0) dX8_told_6 (by decide) ?_
  refine R_iload_n dX8_told_7 rfl ?_
  obtain ⟨r5, σ_3, e4, h⟩ := h
  refine T8_call [.int 0, .int v3] hK hT dX8_told_8 cv8_242 rfl rfl rfl (Nat.le_of_ble_eq_true rfl) e4 ?_
  show RnH [] G l mX8_told (d + 4) (fun v hp1 => v = r ∧ hp1 = tw T σ1 hp) noX 11 (.ref T :: [.long v1, U_, .int v3]) [.int r5] (tw T σ_3 hp) 0 0
  exact R_iret dX8_told_11 rfl rfl ⟨h.1.symm, by rw [h.2]⟩
theorem g8_unit_0 {d : Nat} {σ σ1 : S8} {r : Option Value} (h : Rn8 mX8_unit (d + 4) 2 [.int 1, U_] (fun T => []) σ r σ1) : Rn8 mX8_unit (d + 4) 0 [U_, U_] (fun T => []) σ r σ1 := by
  intro G l T hp hK hT
  refine R_iconst (v := 1) dX8_unit_0 (by decide) ?_
  refine S_istore_n (ls1 := .ref T :: [.int 1, U_]) dX8_unit_1 (by decide) rfl rfl ?_
  exact h G l T hp hK hT
theorem g8_unit_2 {d : Nat} {v1 : Int32} {σ σ1 : S8} {r : Option Value} (h : ((v1 = 0) → Rn8 mX8_unit (d + 4) 101 [.int v1, U_] (fun T => []) σ r σ1) ∧ ((¬ v1 = 0) → ((¬ (σ.1 2) = 0) → Rn8 mX8_unit (d + 4) 101 [.int v1, U_] (fun T => []) σ r σ1) ∧ (((σ.1 2) = 0) → ∃ (r5 : Int32) (σ_3 : S8), Tw8 mX8_isWord (d + 3) [.long 7237492] σ (some (.int r5)) σ_3 ∧ (((r5 = 0) → Rn8 mX8_unit (d + 4) 53 [.int v1, U_] (fun T => []) σ_3 r σ1) ∧ ((¬ r5 = 0) → ∃ (r9 : Int32) (σ_7 : S8), Tw8 mX8_mayNot (d + 3) [] σ_3 (some (.int r9)) σ_7 ∧ (((r9 = 0) → Rn8 mX8_unit (d + 4) 53 [.int v1, U_] (fun T => []) σ_7 r σ1) ∧ ((¬ r9 = 0) → (((σ_7.1 23) ≤ 6) → ∃ σ_12 : S8, Tw8 mX8_openUp (d + 3) [.int 21] σ_7 none σ_12 ∧ (Rn8 mX8_unit (d + 4) 2 [.int v1, U_] (fun T => []) σ_12 r σ1)) ∧ ((¬ (σ_7.1 23) ≤ 6) → ∃ σ_14 : S8, Tw8 mX8_wrong (d + 3) [.int 2] σ_7 none σ_14 ∧ (∃ σ_16 : S8, Tw8 mX8_openUp (d + 3) [.int 21] σ_14 none σ_16 ∧ (Rn8 mX8_unit (d + 4) 2 [.int v1, U_] (fun T => []) σ_16 r σ1)))))))))) : Rn8 mX8_unit (d + 4) 2 [.int v1, U_] (fun T => []) σ r σ1 := by
  intro G l T hp hK hT
  refine R_iload_n dX8_unit_2 rfl ?_
  refine R_if_eq 101 dX8_unit_3 (by decide) (fun c1 => ?_) (fun c1 => ?_)
  · replace h := h.1 c1
    exact h G l T hp hK hT
  · replace h := h.2 c1
    refine R_aload_n dX8_unit_6 rfl ?_
    refine T8_get (x := σ.1 2) hT dX8_unit_7 fl8_179 ⟨by decide, rfl⟩ rfl ?_
    refine R_if_ne 101 dX8_unit_10 (by decide) (fun c2 => ?_) (fun c2 => ?_)
    · replace h := h.1 c2
      exact h G l T hp hK hT
    · replace h := h.2 c2
      refine R_aload_n dX8_unit_13 rfl ?_
      refine R_ldc2 dX8_unit_14 q1743 ?_
      obtain ⟨r5, σ_3, e4, h⟩ := h
      refine T8_call [.long 7237492] hK hT dX8_unit_17 cv8_228 rfl rfl rfl (Nat.le_of_ble_eq_true rfl) e4 ?_
      show RnH [] G l mX8_unit (d + 4) (fun v hp1 => v = r ∧ hp1 = tw T σ1 hp) noX 20 (.ref T :: [.int v1, U_]) [.int r5] (tw T σ_3 hp) 0 0
      refine R_if_eq 53 dX8_unit_20 (by decide) (fun c6 => ?_) (fun c6 => ?_)
      · replace h := h.1 c6
        exact h G l T hp hK hT
      · replace h := h.2 c6
        refine R_aload_n dX8_unit_23 rfl ?_
        obtain ⟨r9, σ_7, e8, h⟩ := h
        refine T8_call [] hK hT dX8_unit_24 cv8_275 rfl rfl rfl (Nat.le_of_ble_eq_true rfl) e8 ?_
        show RnH [] G l mX8_unit (d + 4) (fun v hp1 => v = r ∧ hp1 = tw T σ1 hp) noX 27 (.ref T :: [.int v1, U_]) [.int r9] (tw T σ_7 hp) 0 0
        refine R_if_eq 53 dX8_unit_27 (by decide) (fun c10 => ?_) (fun c10 => ?_)
        · replace h := h.1 c10
          exact h G l T hp hK hT
        · replace h := h.2 c10
          refine R_aload_n dX8_unit_30 rfl ?_
          refine T8_get (x := σ_7.1 23) hT dX8_unit_31 fl8_266 ⟨by decide, rfl⟩ rfl ?_
          refine R_bipush (v := 6) dX8_unit_34 (by decide) ?_
          refine R_icmp_le 44 dX8_unit_36 (by decide) (fun c11 => ?_) (fun c11 => ?_)
          · replace h := h.1 c11
            refine R_aload_n dX8_unit_44 rfl ?_
            refine R_bipush (v := 21) dX8_unit_45 (by decide) ?_
            obtain ⟨σ_12, e13, h⟩ := h
            refine T8_call [.int 21] hK hT dX8_unit_47 cv8_278 rfl rfl rfl (Nat.le_of_ble_eq_true rfl) e13 ?_
            show RnH [] G l mX8_unit (d + 4) (fun v hp1 => v = r ∧ hp1 = tw T σ1 hp) noX 50 (.ref T :: [.int v1, U_]) [] (tw T σ_12 hp) 0 0
            refine R_goto 2 dX8_unit_50 (by decide) ?_
            exact h G l T hp hK hT
          · replace h := h.2 c11
            refine R_aload_n dX8_unit_39 rfl ?_
            refine R_iconst (v := 2) dX8_unit_40 (by decide) ?_
            obtain ⟨σ_14, e15, h⟩ := h
            refine T8_call [.int 2] hK hT dX8_unit_41 cv8_232 rfl rfl rfl (Nat.le_of_ble_eq_true rfl) e15 ?_
            show RnH [] G l mX8_unit (d + 4) (fun v hp1 => v = r ∧ hp1 = tw T σ1 hp) noX 44 (.ref T :: [.int v1, U_]) [] (tw T σ_14 hp) 0 0
            refine R_aload_n dX8_unit_44 rfl ?_
            refine R_bipush (v := 21) dX8_unit_45 (by decide) ?_
            obtain ⟨σ_16, e17, h⟩ := h
            refine T8_call [.int 21] hK hT dX8_unit_47 cv8_278 rfl rfl rfl (Nat.le_of_ble_eq_true rfl) e17 ?_
            show RnH [] G l mX8_unit (d + 4) (fun v hp1 => v = r ∧ hp1 = tw T σ1 hp) noX 50 (.ref T :: [.int v1, U_]) [] (tw T σ_16 hp) 0 0
            refine R_goto 2 dX8_unit_50 (by decide) ?_
            exact h G l T hp hK hT
theorem g8_unit_53 {d : Nat} {v1 : Int32} {σ σ1 : S8} {r : Option Value} (h : ((¬ (σ.1 6) = 40) → Rn8 mX8_unit (d + 4) 2 [.int 0, U_] (fun T => []) σ r σ1) ∧ (((σ.1 6) = 40) → ∃ (r4 : Int32) (σ_2 : S8), Tw8 mX8_isFull (d + 3) [] σ (some (.int r4)) σ_2 ∧ (((¬ r4 = 0) → ∃ σ_6 : S8, Tw8 mX8_wrong (d + 3) [.int 2] σ_2 none σ_6 ∧ (∃ σ_8 : S8, Tw8 mX8_countUnit (d + 3) [] σ_6 none σ_8 ∧ (∃ σ_10 : S8, Tw8 mX8_openUp (d + 3) [.int 20] σ_8 none σ_10 ∧ (Rn8 mX8_unit (d + 4) 2 [.int v1, U_] (fun T => []) σ_10 r σ1)))) ∧ ((r4 = 0) → (((σ_2.1 23) ≤ 6) → ∃ σ_13 : S8, Tw8 mX8_countUnit (d + 3) [] σ_2 none σ_13 ∧ (∃ σ_15 : S8, Tw8 mX8_openUp (d + 3) [.int 20] σ_13 none σ_15 ∧ (Rn8 mX8_unit (d + 4) 2 [.int v1, U_] (fun T => []) σ_15 r σ1))) ∧ ((¬ (σ_2.1 23) ≤ 6) → ∃ σ_17 : S8, Tw8 mX8_wrong (d + 3) [.int 2] σ_2 none σ_17 ∧ (∃ σ_19 : S8, Tw8 mX8_countUnit (d + 3) [] σ_17 none σ_19 ∧ (∃ σ_21 : S8, Tw8 mX8_openUp (d + 3) [.int 20] σ_19 none σ_21 ∧ (Rn8 mX8_unit (d + 4) 2 [.int v1, U_] (fun T => []) σ_21 r σ1)))))))) : Rn8 mX8_unit (d + 4) 53 [.int v1, U_] (fun T => []) σ r σ1 := by
  intro G l T hp hK hT
  refine R_aload_n dX8_unit_53 rfl ?_
  refine T8_get (x := σ.1 6) hT dX8_unit_54 fl8_166 ⟨by decide, rfl⟩ rfl ?_
  refine R_bipush (v := 40) dX8_unit_57 (by decide) ?_
  refine R_icmp_ne 96 dX8_unit_59 (by decide) (fun c1 => ?_) (fun c1 => ?_)
  · replace h := h.1 c1
    refine R_iconst (v := 0) dX8_unit_96 (by decide) ?_
    refine S_istore_n (ls1 := .ref T :: [.int 0, U_]) dX8_unit_97 (by decide) rfl rfl ?_
    refine R_goto 2 dX8_unit_98 (by decide) ?_
    exact h G l T hp hK hT
  · replace h := h.2 c1
    refine R_aload_n dX8_unit_62 rfl ?_
    obtain ⟨r4, σ_2, e3, h⟩ := h
    refine T8_call [] hK hT dX8_unit_63 cv8_281 rfl rfl rfl (Nat.le_of_ble_eq_true rfl) e3 ?_
    show RnH [] G l mX8_unit (d + 4) (fun v hp1 => v = r ∧ hp1 = tw T σ1 hp) noX 66 (.ref T :: [.int v1, U_]) [.int r4] (tw T σ_2 hp) 0 0
    refine R_if_ne 78 dX8_unit_66 (by decide) (fun c5 => ?_) (fun c5 => ?_)
    · replace h := h.1 c5
      refine R_aload_n dX8_unit_78 rfl ?_
      refine R_iconst (v := 2) dX8_unit_79 (by decide) ?_
      obtain ⟨σ_6, e7, h⟩ := h
      refine T8_call [.int 2] hK hT dX8_unit_80 cv8_232 rfl rfl rfl (Nat.le_of_ble_eq_true rfl) e7 ?_
      show RnH [] G l mX8_unit (d + 4) (fun v hp1 => v = r ∧ hp1 = tw T σ1 hp) noX 83 (.ref T :: [.int v1, U_]) [] (tw T σ_6 hp) 0 0
      refine R_aload_n dX8_unit_83 rfl ?_
      obtain ⟨σ_8, e9, h⟩ := h
      refine T8_call [] hK hT dX8_unit_84 cv8_284 rfl rfl rfl (Nat.le_of_ble_eq_true rfl) e9 ?_
      show RnH [] G l mX8_unit (d + 4) (fun v hp1 => v = r ∧ hp1 = tw T σ1 hp) noX 87 (.ref T :: [.int v1, U_]) [] (tw T σ_8 hp) 0 0
      refine R_aload_n dX8_unit_87 rfl ?_
      refine R_bipush (v := 20) dX8_unit_88 (by decide) ?_
      obtain ⟨σ_10, e11, h⟩ := h
      refine T8_call [.int 20] hK hT dX8_unit_90 cv8_278 rfl rfl rfl (Nat.le_of_ble_eq_true rfl) e11 ?_
      show RnH [] G l mX8_unit (d + 4) (fun v hp1 => v = r ∧ hp1 = tw T σ1 hp) noX 93 (.ref T :: [.int v1, U_]) [] (tw T σ_10 hp) 0 0
      refine R_goto 2 dX8_unit_93 (by decide) ?_
      exact h G l T hp hK hT
    · replace h := h.2 c5
      refine R_aload_n dX8_unit_69 rfl ?_
      refine T8_get (x := σ_2.1 23) hT dX8_unit_70 fl8_266 ⟨by decide, rfl⟩ rfl ?_
      refine R_bipush (v := 6) dX8_unit_73 (by decide) ?_
      refine R_icmp_le 83 dX8_unit_75 (by decide) (fun c12 => ?_) (fun c12 => ?_)
      · replace h := h.1 c12
        refine R_aload_n dX8_unit_83 rfl ?_
        obtain ⟨σ_13, e14, h⟩ := h
        refine T8_call [] hK hT dX8_unit_84 cv8_284 rfl rfl rfl (Nat.le_of_ble_eq_true rfl) e14 ?_
        show RnH [] G l mX8_unit (d + 4) (fun v hp1 => v = r ∧ hp1 = tw T σ1 hp) noX 87 (.ref T :: [.int v1, U_]) [] (tw T σ_13 hp) 0 0
        refine R_aload_n dX8_unit_87 rfl ?_
        refine R_bipush (v := 20) dX8_unit_88 (by decide) ?_
        obtain ⟨σ_15, e16, h⟩ := h
        refine T8_call [.int 20] hK hT dX8_unit_90 cv8_278 rfl rfl rfl (Nat.le_of_ble_eq_true rfl) e16 ?_
        show RnH [] G l mX8_unit (d + 4) (fun v hp1 => v = r ∧ hp1 = tw T σ1 hp) noX 93 (.ref T :: [.int v1, U_]) [] (tw T σ_15 hp) 0 0
        refine R_goto 2 dX8_unit_93 (by decide) ?_
        exact h G l T hp hK hT
      · replace h := h.2 c12
        refine R_aload_n dX8_unit_78 rfl ?_
        refine R_iconst (v := 2) dX8_unit_79 (by decide) ?_
        obtain ⟨σ_17, e18, h⟩ := h
        refine T8_call [.int 2] hK hT dX8_unit_80 cv8_232 rfl rfl rfl (Nat.le_of_ble_eq_true rfl) e18 ?_
        show RnH [] G l mX8_unit (d + 4) (fun v hp1 => v = r ∧ hp1 = tw T σ1 hp) noX 83 (.ref T :: [.int v1, U_]) [] (tw T σ_17 hp) 0 0
        refine R_aload_n dX8_unit_83 rfl ?_
        obtain ⟨σ_19, e20, h⟩ := h
        refine T8_call [] hK hT dX8_unit_84 cv8_284 rfl rfl rfl (Nat.le_of_ble_eq_true rfl) e20 ?_
        show RnH [] G l mX8_unit (d + 4) (fun v hp1 => v = r ∧ hp1 = tw T σ1 hp) noX 87 (.ref T :: [.int v1, U_]) [] (tw T σ_19 hp) 0 0
        refine R_aload_n dX8_unit_87 rfl ?_
        refine R_bipush (v := 20) dX8_unit_88 (by decide) ?_
        obtain ⟨σ_21, e22, h⟩ := h
        refine T8_call [.int 20] hK hT dX8_unit_90 cv8_278 rfl rfl rfl (Nat.le_of_ble_eq_true rfl) e22 ?_
        show RnH [] G l mX8_unit (d + 4) (fun v hp1 => v = r ∧ hp1 = tw T σ1 hp) noX 93 (.ref T :: [.int v1, U_]) [] (tw T σ_21 hp) 0 0
        refine R_goto 2 dX8_unit_93 (by decide) ?_
        exact h G l T hp hK hT
theorem g8_unit_101 {d : Nat} {v1 : Int32} {σ σ1 : S8} {r : Option Value} (h : (((σ.1 2) ≤ 0) → ∃ (r4 : Int32) (σ_2 : S8), Tw8 mX8_asked (d + 3) [] σ (some (.int r4)) σ_2 ∧ ((((σ_2.1 6) = 2) → Rn8 mX8_unit (d + 4) 126 [.int v1, .int r4] (fun T => []) σ_2 r σ1) ∧ ((¬ (σ_2.1 6) = 2) → ((r4 < 0) → Rn8 mX8_unit (d + 4) 133 [.int v1, .int r4] (fun T => []) σ_2 r σ1) ∧ ((¬ r4 < 0) → Rn8 mX8_unit (d + 4) 126 [.int v1, .int r4] (fun T => []) σ_2 r σ1)))) ∧ ((¬ (σ.1 2) ≤ 0) → r = none ∧ σ1 = σ)) : Rn8 mX8_unit (d + 4) 101 [.int v1, U_] (fun T => []) σ r σ1 := by
  intro G l T hp hK hT
  refine R_aload_n dX8_unit_101 rfl ?_
  refine T8_get (x := σ.1 2) hT dX8_unit_102 fl8_179 ⟨by decide, rfl⟩ rfl ?_
  refine R_if_le 109 dX8_unit_105 (by decide) (fun c1 => ?_) (fun c1 => ?_)
  · replace h := h.1 c1
    refine R_aload_n dX8_unit_109 rfl ?_
    obtain ⟨r4, σ_2, e3, h⟩ := h
    refine T8_call [] hK hT dX8_unit_110 cv8_287 rfl rfl rfl (Nat.le_of_ble_eq_true rfl) e3 ?_
    show RnH [] G l mX8_unit (d + 4) (fun v hp1 => v = r ∧ hp1 = tw T σ1 hp) noX 113 (.ref T :: [.int v1, U_]) [.int r4] (tw T σ_2 hp) 0 0
    refine S_istore_n (ls1 := .ref T :: [.int v1, .int r4]) dX8_unit_113 (by decide) rfl rfl ?_
    refine R_aload_n dX8_unit_114 rfl ?_
    refine T8_get (x := σ_2.1 6) hT dX8_unit_115 fl8_166 ⟨by decide, rfl⟩ rfl ?_
    refine R_iconst (v := 2) dX8_unit_118 (by decide) ?_
    refine R_icmp_eq 126 dX8_unit_119 (by decide) (fun c5 => ?_) (fun c5 => ?_)
    · replace h := h.1 c5
      exact h G l T hp hK hT
    · replace h := h.2 c5
      refine R_iload_n dX8_unit_122 rfl ?_
      refine R_if_lt 133 dX8_unit_123 (by decide) (fun c6 => ?_) (fun c6 => ?_)
      · replace h := h.1 c6
        exact h G l T hp hK hT
      · replace h := h.2 c6
        exact h G l T hp hK hT
  · replace h := h.2 c1
    exact R_vret dX8_unit_108 rfl ⟨h.1.symm, by rw [h.2]⟩
theorem g8_unit_126 {d : Nat} {v1 : Int32} {v2 : Int32} {σ σ1 : S8} {r : Option Value} (h : ∃ (r3 : Int32) (σ_1 : S8), Tw8 mX8_isFull (d + 3) [] σ (some (.int r3)) σ_1 ∧ (((r3 = 0) → Rn8 mX8_unit (d + 4) 138 [.int v1, .int v2] (fun T => []) σ_1 r σ1) ∧ ((¬ r3 = 0) → Rn8 mX8_unit (d + 4) 133 [.int v1, .int v2] (fun T => []) σ_1 r σ1))) : Rn8 mX8_unit (d + 4) 126 [.int v1, .int v2] (fun T => []) σ r σ1 := by
  intro G l T hp hK hT
  refine R_aload_n dX8_unit_126 rfl ?_
  obtain ⟨r3, σ_1, e2, h⟩ := h
  refine T8_call [] hK hT dX8_unit_127 cv8_281 rfl rfl rfl (Nat.le_of_ble_eq_true rfl) e2 ?_
  show RnH [] G l mX8_unit (d + 4) (fun v hp1 => v = r ∧ hp1 = tw T σ1 hp) noX 130 (.ref T :: [.int v1, .int v2]) [.int r3] (tw T σ_1 hp) 0 0
  refine R_if_eq 138 dX8_unit_130 (by decide) (fun c4 => ?_) (fun c4 => ?_)
  · replace h := h.1 c4
    exact h G l T hp hK hT
  · replace h := h.2 c4
    exact h G l T hp hK hT
theorem g8_unit_133 {d : Nat} {v1 : Int32} {v2 : Int32} {σ σ1 : S8} {r : Option Value} (h : ∃ σ_1 : S8, Tw8 mX8_wrong (d + 3) [.int 2] σ none σ_1 ∧ (Rn8 mX8_unit (d + 4) 138 [.int v1, .int v2] (fun T => []) σ_1 r σ1)) : Rn8 mX8_unit (d + 4) 133 [.int v1, .int v2] (fun T => []) σ r σ1 := by
  intro G l T hp hK hT
  refine R_aload_n dX8_unit_133 rfl ?_
  refine R_iconst (v := 2) dX8_unit_134 (by decide) ?_
  obtain ⟨σ_1, e2, h⟩ := h
  refine T8_call [.int 2] hK hT dX8_unit_135 cv8_232 rfl rfl rfl (Nat.le_of_ble_eq_true rfl) e2 ?_
  show RnH [] G l mX8_unit (d + 4) (fun v hp1 => v = r ∧ hp1 = tw T σ1 hp) noX 138 (.ref T :: [.int v1, .int v2]) [] (tw T σ_1 hp) 0 0
  exact h G l T hp hK hT
theorem g8_unit_138 {d : Nat} {v1 : Int32} {v2 : Int32} {σ σ1 : S8} {r : Option Value} (h : (((σ.1 2) ≤ 0) → ∃ σ_2 : S8, Tw8 mX8_countUnit (d + 3) [] σ none σ_2 ∧ (∃ σ_8 : S8, Tw8 mX8_add (d + 3) [.int (if 0 ≤ v2 then 1 else 0), .int (if 0 ≤ v2 then v2 else σ_2.1 8)] σ_2 none σ_8 ∧ (∃ σ_10 : S8, Tw8 mX8_token (d + 3) [] σ_8 none σ_10 ∧ (r = none ∧ σ1 = σ_10)))) ∧ ((¬ (σ.1 2) ≤ 0) → r = none ∧ σ1 = σ)) : Rn8 mX8_unit (d + 4) 138 [.int v1, .int v2] (fun T => []) σ r σ1 := by
  intro G l T hp hK hT
  refine R_aload_n dX8_unit_138 rfl ?_
  refine T8_get (x := σ.1 2) hT dX8_unit_139 fl8_179 ⟨by decide, rfl⟩ rfl ?_
  refine R_if_le 146 dX8_unit_142 (by decide) (fun c1 => ?_) (fun c1 => ?_)
  · replace h := h.1 c1
    refine R_aload_n dX8_unit_146 rfl ?_
    obtain ⟨σ_2, e3, h⟩ := h
    refine T8_call [] hK hT dX8_unit_147 cv8_284 rfl rfl rfl (Nat.le_of_ble_eq_true rfl) e3 ?_
    show RnH [] G l mX8_unit (d + 4) (fun v hp1 => v = r ∧ hp1 = tw T σ1 hp) noX 150 (.ref T :: [.int v1, .int v2]) [] (tw T σ_2 hp) 0 0
    refine R_aload_n dX8_unit_150 rfl ?_
    refine R_iload_n dX8_unit_151 rfl ?_
    have J4 : RnH [] G l mX8_unit (d + 4) (fun v hp1 => v = r ∧ hp1 = tw T σ1 hp) noX 160 (.ref T :: [.int v1, .int v2]) [.int (if 0 ≤ v2 then 1 else 0), .ref T] (tw T σ_2 hp) 0 0 := by
      refine R_iload_n dX8_unit_160 rfl ?_
      have J6 : RnH [] G l mX8_unit (d + 4) (fun v hp1 => v = r ∧ hp1 = tw T σ1 hp) noX 172 (.ref T :: [.int v1, .int v2]) [.int (if 0 ≤ v2 then v2 else σ_2.1 8), .int (if 0 ≤ v2 then 1 else 0), .ref T] (tw T σ_2 hp) 0 0 := by
        obtain ⟨σ_8, e9, h⟩ := h
        refine T8_call [.int (if 0 ≤ v2 then 1 else 0), .int (if 0 ≤ v2 then v2 else σ_2.1 8)] hK hT dX8_unit_172 cv8_262 rfl rfl rfl (Nat.le_of_ble_eq_true rfl) e9 ?_
        show RnH [] G l mX8_unit (d + 4) (fun v hp1 => v = r ∧ hp1 = tw T σ1 hp) noX 175 (.ref T :: [.int v1, .int v2]) [] (tw T σ_8 hp) 0 0
        refine R_aload_n dX8_unit_175 rfl ?_
        obtain ⟨σ_10, e11, h⟩ := h
        refine T8_call [] hK hT dX8_unit_176 cv8_235 rfl rfl rfl (Nat.le_of_ble_eq_true rfl) e11 ?_
        show RnH [] G l mX8_unit (d + 4) (fun v hp1 => v = r ∧ hp1 = tw T σ1 hp) noX 179 (.ref T :: [.int v1, .int v2]) [] (tw T σ_10 hp) 0 0
        exact R_vret dX8_unit_179 rfl ⟨h.1.symm, by rw [h.2]⟩
      refine R_if_ge 171 dX8_unit_161 (by decide) (fun c12 => ?_) (fun c12 => ?_)
      · refine R_iload_n dX8_unit_171 rfl ?_
        simp only [if_pos c12] at J6
        first | exact J6 | (simp only [if_pos c12]; exact J6)
      · refine R_aload_n dX8_unit_164 rfl ?_
        refine T8_get (x := σ_2.1 8) hT dX8_unit_165 fl8_163 ⟨by decide, rfl⟩ rfl ?_
        refine R_goto 172 dX8_unit_168 (by decide) ?_
        simp only [if_neg c12] at J6
        first | exact J6 | (simp only [if_neg c12]; exact J6)
    refine R_if_ge 159 dX8_unit_152 (by decide) (fun c13 => ?_) (fun c13 => ?_)
    · refine R_iconst (v := 1) dX8_unit_159 (by decide) ?_
      simp only [if_pos c13] at J4
      first | exact J4 | (simp only [if_pos c13]; exact J4)
    · refine R_iconst (v := 0) dX8_unit_155 (by decide) ?_
      refine R_goto 160 dX8_unit_156 (by decide) ?_
      simp only [if_neg c13] at J4
      first | exact J4 | (simp only [if_neg c13]; exact J4)
  · replace h := h.2 c1
    exact R_vret dX8_unit_145 rfl ⟨h.1.symm, by rw [h.2]⟩
theorem g8_coatsFor_0 {d : Nat} {v1 : Int32} {σ σ1 : S8} {r : Option Value} (h : Rn8 mX8_coatsFor (d + 5) 4 [.int v1, .int 0, .int 0] (fun T => []) σ r σ1) : Rn8 mX8_coatsFor (d + 5) 0 [.int v1, U_, U_] (fun T => []) σ r σ1 := by
  intro G l T hp hK hT
  refine R_iconst (v := 0) dX8_coatsFor_0 (by decide) ?_
  refine S_istore_n (ls1 := .ref T :: [.int v1, .int 0, U_]) dX8_coatsFor_1 (by decide) rfl rfl ?_
  refine R_iconst (v := 0) dX8_coatsFor_2 (by decide) ?_
  refine S_istore_n (ls1 := .ref T :: [.int v1, .int 0, .int 0]) dX8_coatsFor_3 (by decide) rfl rfl ?_
  exact h G l T hp hK hT
theorem g8_coatsFor_4 {d : Nat} {v1 : Int32} {v2 : Int32} {v3 : Int32} {σ σ1 : S8} {r : Option Value} (h : (((σ.1 49) ≤ v3) → r = some (.int v2) ∧ σ1 = σ) ∧ ((¬ (σ.1 49) ≤ v3) → ∃ (r4 : Int32) (σ_2 : S8), Tw8 mX8_fits (d + 4) [.int v1, .int v3] σ (some (.int r4)) σ_2 ∧ (Rn8 mX8_coatsFor (d + 5) 4 [.int v1, .int (v2 ||| ((s8_truth r4) <<< (v3 &&& 31))), .int (v3 + 1)] (fun T => []) σ_2 r σ1))) : Rn8 mX8_coatsFor (d + 5) 4 [.int v1, .int v2, .int v3] (fun T => []) σ r σ1 := by
  intro G l T hp hK hT
  refine R_iload_n dX8_coatsFor_4 rfl ?_
  refine R_aload_n dX8_coatsFor_5 rfl ?_
  refine T8_get (x := σ.1 49) hT dX8_coatsFor_6 fl8_390 ⟨by decide, rfl⟩ rfl ?_
  refine R_icmp_ge 32 dX8_coatsFor_9 (by decide) (fun c1 => ?_) (fun c1 => ?_)
  · replace h := h.1 c1
    refine R_iload_n dX8_coatsFor_32 rfl ?_
    exact R_iret dX8_coatsFor_33 rfl rfl ⟨h.1.symm, by rw [h.2]⟩
  · replace h := h.2 c1
    refine R_iload_n dX8_coatsFor_12 rfl ?_
    refine R_aload_n dX8_coatsFor_13 rfl ?_
    refine R_iload_n dX8_coatsFor_14 rfl ?_
    refine R_iload_n dX8_coatsFor_15 rfl ?_
    obtain ⟨r4, σ_2, e3, h⟩ := h
    refine T8_call [.int v1, .int v3] hK hT dX8_coatsFor_16 cv8_424 rfl rfl rfl (Nat.le_of_ble_eq_true rfl) e3 ?_
    show RnH [] G l mX8_coatsFor (d + 5) (fun v hp1 => v = r ∧ hp1 = tw T σ1 hp) noX 19 (.ref T :: [.int v1, .int v2, .int v3]) [.int r4, .int v2] (tw T σ_2 hp) 0 0
    refine T8_callS [.int r4] dX8_coatsFor_19 cs8_310 rfl rfl (Nat.le_of_ble_eq_true rfl) (st8_truth (d + 3) r4) ?_
    show RnH [] G l mX8_coatsFor (d + 5) (fun v hp1 => v = r ∧ hp1 = tw T σ1 hp) noX 22 (.ref T :: [.int v1, .int v2, .int v3]) [.int (s8_truth r4), .int v2] (tw T σ_2 hp) 0 0
    refine R_iload_n dX8_coatsFor_22 rfl ?_
    refine R_ishl dX8_coatsFor_23 ?_
    refine R_ior dX8_coatsFor_24 ?_
    refine S_istore_n (ls1 := .ref T :: [.int v1, .int (v2 ||| ((s8_truth r4) <<< (v3 &&& 31))), .int v3]) dX8_coatsFor_25 (by decide) rfl rfl ?_
    refine S_iinc (v := v3 + 1) (ls1 := .ref T :: [.int v1, .int (v2 ||| ((s8_truth r4) <<< (v3 &&& 31))), .int (v3 + 1)]) dX8_coatsFor_26 rfl rfl (by decide) rfl rfl ?_
    refine R_goto 4 dX8_coatsFor_29 (by decide) ?_
    exact h G l T hp hK hT
theorem g8_dress_0 {d : Nat} {v1 : Int32} {σ σ1 : S8} {r : Option Value} (h : ((¬ (s8_isIn v1 0 1) = 0) → ∃ σ_2 : S8, Tw8 mX8_layIlls (d + 4) [] σ none σ_2 ∧ (Rn8 mX8_dress (d + 5) 22 [.int v1, .int (-1), .int 0, .int 0, U_, U_] (fun T => []) σ_2 r σ1)) ∧ (((s8_isIn v1 0 1) = 0) → r = some (.int (-1)) ∧ σ1 = σ)) : Rn8 mX8_dress (d + 5) 0 [.int v1, U_, U_, U_, U_, U_] (fun T => []) σ r σ1 := by
  intro G l T hp hK hT
  refine R_iload_n dX8_dress_0 rfl ?_
  refine R_iconst (v := 0) dX8_dress_1 (by decide) ?_
  refine R_iconst (v := 1) dX8_dress_2 (by decide) ?_
  refine T8_callS [.int v1, .int 0, .int 1] dX8_dress_3 cs8_417 rfl rfl (Nat.le_of_ble_eq_true rfl) (st8_isIn (d + 3) v1 0 1) ?_
  show RnH [] G l mX8_dress (d + 5) (fun v hp1 => v = r ∧ hp1 = tw T σ1 hp) noX 6 (.ref T :: [.int v1, U_, U_, U_, U_, U_]) [.int (s8_isIn v1 0 1)] (tw T σ hp) 0 0
  refine R_if_ne 11 dX8_dress_6 (by decide) (fun c1 => ?_) (fun c1 => ?_)
  · replace h := h.1 c1
    refine R_aload_n dX8_dress_11 rfl ?_
    obtain ⟨σ_2, e3, h⟩ := h
    refine T8_call [] hK hT dX8_dress_12 cv8_470 rfl rfl rfl (Nat.le_of_ble_eq_true rfl) e3 ?_
    show RnH [] G l mX8_dress (d + 5) (fun v hp1 => v = r ∧ hp1 = tw T σ1 hp) noX 15 (.ref T :: [.int v1, U_, U_, U_, U_, U_]) [] (tw T σ_2 hp) 0 0
    refine R_iconst (v := (-1)) dX8_dress_15 (by decide) ?_
    refine S_istore_n (ls1 := .ref T :: [.int v1, .int (-1), U_, U_, U_, U_]) dX8_dress_16 (by decide) rfl rfl ?_
    refine R_iconst (v := 0) dX8_dress_17 (by decide) ?_
    refine S_istore_n (ls1 := .ref T :: [.int v1, .int (-1), .int 0, U_, U_, U_]) dX8_dress_18 (by decide) rfl rfl ?_
    refine R_iconst (v := 0) dX8_dress_19 (by decide) ?_
    refine S_istore (ls1 := .ref T :: [.int v1, .int (-1), .int 0, .int 0, U_, U_]) dX8_dress_20 (by decide) rfl rfl ?_
    exact h G l T hp hK hT
  · replace h := h.2 c1
    refine R_iconst (v := (-1)) dX8_dress_9 (by decide) ?_
    exact R_iret dX8_dress_10 rfl rfl ⟨h.1.symm, by rw [h.2]⟩
theorem g8_dress_22 {d : Nat} {v1 : Int32} {v2 : Int32} {v3 : Int32} {v4 : Int32} {σ σ1 : S8} {r : Option Value} (h : (((s8_power ((σ.1 49) + 1) (σ.1 48)) ≤ v4) → r = some (.int (if v1 = 0 then v2 else v3)) ∧ σ1 = (upd σ.1 67 (σ.1 48), σ.2.1, σ.2.2.1, σ.2.2.2)) ∧ ((¬ (s8_power ((σ.1 49) + 1) (σ.1 48)) ≤ v4) → ∃ (r7 : Int32) (σ_5 : S8), Tw8 mX8_layDress (d + 4) [.int v4] σ (some (.int r7)) σ_5 ∧ (((r7 < 0) → Rn8 mX8_dress (d + 5) 22 [.int v1, .int v2, .int v3, .int (v4 + 1), U_, U_] (fun T => []) σ_5 r σ1) ∧ ((¬ r7 < 0) → ((r7 < v2) → Rn8 mX8_dress (d + 5) 22 [.int v1, .int v2, .int v3, .int (v4 + 1), U_, U_] (fun T => []) σ_5 r σ1) ∧ ((¬ r7 < v2) → ((¬ r7 = v2) → ∃ (r13 : Int32) (σ_11 : S8), Tw8 mX8_illOfRow (d + 4) [] σ_5 (some (.int r13)) σ_11 ∧ (Rn8 mX8_dress (d + 5) 87 [.int v1, .int r7, .int r13, .int v4, .int r7, .int 0] (fun T => []) σ_11 r σ1)) ∧ ((r7 = v2) → ∃ (r16 : Int32) (σ_14 : S8), Tw8 mX8_illOfRow (d + 4) [] σ_5 (some (.int r16)) σ_14 ∧ (((r16 < v3) → ∃ (r20 : Int32) (σ_18 : S8), Tw8 mX8_illOfRow (d + 4) [] σ_14 (some (.int r20)) σ_18 ∧ (Rn8 mX8_dress (d + 5) 87 [.int v1, .int r7, .int r20, .int v4, .int r7, .int 0] (fun T => []) σ_18 r σ1)) ∧ ((¬ r16 < v3) → Rn8 mX8_dress (d + 5) 22 [.int v1, .int v2, .int v3, .int (v4 + 1), U_, U_] (fun T => []) σ_14 r σ1)))))))) : Rn8 mX8_dress (d + 5) 22 [.int v1, .int v2, .int v3, .int v4, U_, U_] (fun T => []) σ r σ1 := by
  intro G l T hp hK hT
  refine R_iload dX8_dress_22 rfl ?_
  refine R_aload_n dX8_dress_24 rfl ?_
  refine T8_get (x := σ.1 49) hT dX8_dress_25 fl8_390 ⟨by decide, rfl⟩ rfl ?_
  refine R_iconst (v := 1) dX8_dress_28 (by decide) ?_
  refine R_iadd dX8_dress_29 ?_
  refine R_aload_n dX8_dress_30 rfl ?_
  refine T8_get (x := σ.1 48) hT dX8_dress_31 fl8_387 ⟨by decide, rfl⟩ rfl ?_
  refine T8_callS [.int ((σ.1 49) + 1), .int (σ.1 48)] dX8_dress_34 cs8_473 rfl rfl (Nat.le_of_ble_eq_true rfl) (st8_power (d + 3) ((σ.1 49) + 1) (σ.1 48)) ?_
  show RnH [] G l mX8_dress (d + 5) (fun v hp1 => v = r ∧ hp1 = tw T σ1 hp) noX 37 (.ref T :: [.int v1, .int v2, .int v3, .int v4, U_, U_]) [.int (s8_power ((σ.1 49) + 1) (σ.1 48)), .int v4] (tw T σ hp) 0 0
  refine R_icmp_ge 122 dX8_dress_37 (by decide) (fun c1 => ?_) (fun c1 => ?_)
  · replace h := h.1 c1
    refine R_aload_n dX8_dress_122 rfl ?_
    refine R_aload_n dX8_dress_123 rfl ?_
    refine T8_get (x := σ.1 48) hT dX8_dress_124 fl8_387 ⟨by decide, rfl⟩ rfl ?_
    refine T8_put (σ9 := (upd σ.1 67 (σ.1 48), σ.2.1, σ.2.2.1, σ.2.2.2)) hK hT dX8_dress_127 fl8_414 ft8_67 rfl rfl ⟨by decide, rfl⟩ rfl ?_
    refine R_iload_n dX8_dress_130 rfl ?_
    have J2 : RnH [] G l mX8_dress (d + 5) (fun v hp1 => v = r ∧ hp1 = tw T σ1 hp) noX 139 (.ref T :: [.int v1, .int v2, .int v3, .int v4, U_, U_]) [.int (if v1 = 0 then v2 else v3)] (tw T (upd σ.1 67 (σ.1 48), σ.2.1, σ.2.2.1, σ.2.2.2) hp) 0 0 := by
      exact R_iret dX8_dress_139 rfl rfl ⟨h.1.symm, by rw [h.2]⟩
    refine R_if_ne 138 dX8_dress_131 (by decide) (fun c4 => ?_) (fun c4 => ?_)
    · refine R_iload_n dX8_dress_138 rfl ?_
      simp only [if_neg c4] at J2
      first | exact J2 | (simp only [if_neg c4]; exact J2)
    · refine R_iload_n dX8_dress_134 rfl ?_
      refine R_goto 139 dX8_dress_135 (by decide) ?_
      simp only [if_pos c4] at J2
      first | exact J2 | (simp only [if_pos c4]; exact J2)
  · replace h := h.2 c1
    refine R_aload_n dX8_dress_40 rfl ?_
    refine R_iload dX8_dress_41 rfl ?_
    obtain ⟨r7, σ_5, e6, h⟩ := h
    refine T8_call [.int v4] hK hT dX8_dress_43 cv8_476 rfl rfl rfl (Nat.le_of_ble_eq_true rfl) e6 ?_
    show RnH [] G l mX8_dress (d + 5) (fun v hp1 => v = r ∧ hp1 = tw T σ1 hp) noX 46 (.ref T :: [.int v1, .int v2, .int v3, .int v4, U_, U_]) [.int r7] (tw T σ_5 hp) 0 0
    refine S_istore (ls1 := .ref T :: [.int v1, .int v2, .int v3, .int v4, .int r7, U_]) dX8_dress_46 (by decide) rfl rfl ?_
    refine R_iload dX8_dress_48 rfl ?_
    refine R_if_lt 116 dX8_dress_50 (by decide) (fun c8 => ?_) (fun c8 => ?_)
    · replace h := h.1 c8
      refine S_iinc (v := v4 + 1) (ls1 := .ref T :: [.int v1, .int v2, .int v3, .int (v4 + 1), .int r7, U_]) dX8_dress_116 rfl rfl (by decide) rfl rfl ?_
      refine R_goto 22 dX8_dress_119 (by decide) ?_
      refine R_drop 5 ?_
      exact h G l T hp hK hT
    · replace h := h.2 c8
      refine R_iload dX8_dress_53 rfl ?_
      refine R_iload_n dX8_dress_55 rfl ?_
      refine R_icmp_lt 116 dX8_dress_56 (by decide) (fun c9 => ?_) (fun c9 => ?_)
      · replace h := h.1 c9
        refine S_iinc (v := v4 + 1) (ls1 := .ref T :: [.int v1, .int v2, .int v3, .int (v4 + 1), .int r7, U_]) dX8_dress_116 rfl rfl (by decide) rfl rfl ?_
        refine R_goto 22 dX8_dress_119 (by decide) ?_
        refine R_drop 5 ?_
        exact h G l T hp hK hT
      · replace h := h.2 c9
        refine R_iload dX8_dress_59 rfl ?_
        refine R_iload_n dX8_dress_61 rfl ?_
        refine R_icmp_ne 76 dX8_dress_62 (by decide) (fun c10 => ?_) (fun c10 => ?_)
        · replace h := h.1 c10
          refine R_iload dX8_dress_76 rfl ?_
          refine S_istore_n (ls1 := .ref T :: [.int v1, .int r7, .int v3, .int v4, .int r7, U_]) dX8_dress_78 (by decide) rfl rfl ?_
          refine R_aload_n dX8_dress_79 rfl ?_
          obtain ⟨r13, σ_11, e12, h⟩ := h
          refine T8_call [] hK hT dX8_dress_80 cv8_479 rfl rfl rfl (Nat.le_of_ble_eq_true rfl) e12 ?_
          show RnH [] G l mX8_dress (d + 5) (fun v hp1 => v = r ∧ hp1 = tw T σ1 hp) noX 83 (.ref T :: [.int v1, .int r7, .int v3, .int v4, .int r7, U_]) [.int r13] (tw T σ_11 hp) 0 0
          refine S_istore_n (ls1 := .ref T :: [.int v1, .int r7, .int r13, .int v4, .int r7, U_]) dX8_dress_83 (by decide) rfl rfl ?_
          refine R_iconst (v := 0) dX8_dress_84 (by decide) ?_
          refine S_istore (ls1 := .ref T :: [.int v1, .int r7, .int r13, .int v4, .int r7, .int 0]) dX8_dress_85 (by decide) rfl rfl ?_
          exact h G l T hp hK hT
        · replace h := h.2 c10
          refine R_aload_n dX8_dress_65 rfl ?_
          obtain ⟨r16, σ_14, e15, h⟩ := h
          refine T8_call [] hK hT dX8_dress_66 cv8_479 rfl rfl rfl (Nat.le_of_ble_eq_true rfl) e15 ?_
          show RnH [] G l mX8_dress (d + 5) (fun v hp1 => v = r ∧ hp1 = tw T σ1 hp) noX 69 (.ref T :: [.int v1, .int v2, .int v3, .int v4, .int r7, U_]) [.int r16] (tw T σ_14 hp) 0 0
          refine R_iload_n dX8_dress_69 rfl ?_
          refine R_icmp_lt 76 dX8_dress_70 (by decide) (fun c17 => ?_) (fun c17 => ?_)
          · replace h := h.1 c17
            refine R_iload dX8_dress_76 rfl ?_
            refine S_istore_n (ls1 := .ref T :: [.int v1, .int r7, .int v3, .int v4, .int r7, U_]) dX8_dress_78 (by decide) rfl rfl ?_
            refine R_aload_n dX8_dress_79 rfl ?_
            obtain ⟨r20, σ_18, e19, h⟩ := h
            refine T8_call [] hK hT dX8_dress_80 cv8_479 rfl rfl rfl (Nat.le_of_ble_eq_true rfl) e19 ?_
            show RnH [] G l mX8_dress (d + 5) (fun v hp1 => v = r ∧ hp1 = tw T σ1 hp) noX 83 (.ref T :: [.int v1, .int r7, .int v3, .int v4, .int r7, U_]) [.int r20] (tw T σ_18 hp) 0 0
            refine S_istore_n (ls1 := .ref T :: [.int v1, .int r7, .int r20, .int v4, .int r7, U_]) dX8_dress_83 (by decide) rfl rfl ?_
            refine R_iconst (v := 0) dX8_dress_84 (by decide) ?_
            refine S_istore (ls1 := .ref T :: [.int v1, .int r7, .int r20, .int v4, .int r7, .int 0]) dX8_dress_85 (by decide) rfl rfl ?_
            exact h G l T hp hK hT
          · replace h := h.2 c17
            refine R_goto 116 dX8_dress_73 (by decide) ?_
            refine S_iinc (v := v4 + 1) (ls1 := .ref T :: [.int v1, .int v2, .int v3, .int (v4 + 1), .int r7, U_]) dX8_dress_116 rfl rfl (by decide) rfl rfl ?_
            refine R_goto 22 dX8_dress_119 (by decide) ?_
            refine R_drop 5 ?_
            exact h G l T hp hK hT
theorem g8_dress_87 {d : Nat} {v1 : Int32} {v2 : Int32} {v3 : Int32} {v4 : Int32} {v5 : Int32} {v6 : Int32} {σ σ1 : S8} {r : Option Value} (h : (((σ.1 48) ≤ v6) → Rn8 mX8_dress (d + 5) 22 [.int v1, .int v2, .int v3, .int (v4 + 1), U_, U_] (fun T => []) σ r σ1) ∧ ((¬ (σ.1 48) ≤ v6) → vp_in v6 6 ∧ (Rn8 mX8_dress (d + 5) 87 [.int v1, .int v2, .int v3, .int v4, .int v5, .int (v6 + 1)] (fun T => []) (σ.1, upA σ.2.1 64 (upd (σ.2.1 64) v6.toNatClampNeg (σ.2.1 65 v6.toNatClampNeg)), σ.2.2.1, σ.2.2.2) r σ1))) : Rn8 mX8_dress (d + 5) 87 [.int v1, .int v2, .int v3, .int v4, .int v5, .int v6] (fun T => []) σ r σ1 := by
  intro G l T hp hK hT
  refine R_iload dX8_dress_87 rfl ?_
  refine R_aload_n dX8_dress_89 rfl ?_
  refine T8_get (x := σ.1 48) hT dX8_dress_90 fl8_387 ⟨by decide, rfl⟩ rfl ?_
  refine R_icmp_ge 116 dX8_dress_93 (by decide) (fun c1 => ?_) (fun c1 => ?_)
  · replace h := h.1 c1
    refine S_iinc (v := v4 + 1) (ls1 := .ref T :: [.int v1, .int v2, .int v3, .int (v4 + 1), .int v5, .int v6]) dX8_dress_116 rfl rfl (by decide) rfl rfl ?_
    refine R_goto 22 dX8_dress_119 (by decide) ?_
    refine R_drop 5 ?_
    refine R_drop 6 ?_
    exact h G l T hp hK hT
  · replace h := h.2 c1
    refine R_aload_n dX8_dress_96 rfl ?_
    refine T8_geta hT dX8_dress_97 fl8_102 ⟨by decide, by decide, by decide⟩ ?_
    refine R_iload dX8_dress_100 rfl ?_
    refine R_aload_n dX8_dress_102 rfl ?_
    refine T8_geta hT dX8_dress_103 fl8_105 ⟨by decide, by decide, by decide⟩ ?_
    refine R_iload dX8_dress_106 rfl ?_
    have b2 := h.1
    replace h := h.2
    refine T8_iald (x := σ.2.1 65 v6.toNatClampNeg) hT dX8_dress_108 ⟨by decide, rfl⟩ b2 rfl ?_
    refine T8_iast (σ9 := (σ.1, upA σ.2.1 64 (upd (σ.2.1 64) v6.toNatClampNeg (σ.2.1 65 v6.toNatClampNeg)), σ.2.2.1, σ.2.2.2)) hK hT dX8_dress_109 ⟨by decide, rfl⟩ b2 rfl ?_
    refine S_iinc (v := v6 + 1) (ls1 := .ref T :: [.int v1, .int v2, .int v3, .int v4, .int v5, .int (v6 + 1)]) dX8_dress_110 rfl rfl (by decide) rfl rfl ?_
    refine R_goto 87 dX8_dress_113 (by decide) ?_
    exact h G l T hp hK hT
theorem g8_ease_0 {d : Nat} {σ σ1 : S8} {r : Option Value} (h : ∃ σ_1 : S8, Tw8 mX8_fill (d + 4) [] σ none σ_1 ∧ (Rn8 mX8_ease (d + 5) 8 [.int 0, .int 0] (fun T => []) σ_1 r σ1)) : Rn8 mX8_ease (d + 5) 0 [U_, U_] (fun T => []) σ r σ1 := by
  intro G l T hp hK hT
  refine R_aload_n dX8_ease_0 rfl ?_
  obtain ⟨σ_1, e2, h⟩ := h
  refine T8_call [] hK hT dX8_ease_1 cv8_449 rfl rfl rfl (Nat.le_of_ble_eq_true rfl) e2 ?_
  show RnH [] G l mX8_ease (d + 5) (fun v hp1 => v = r ∧ hp1 = tw T σ1 hp) noX 4 (.ref T :: [U_, U_]) [] (tw T σ_1 hp) 0 0
  refine R_iconst (v := 0) dX8_ease_4 (by decide) ?_
  refine S_istore_n (ls1 := .ref T :: [.int 0, U_]) dX8_ease_5 (by decide) rfl rfl ?_
  refine R_iconst (v := 0) dX8_ease_6 (by decide) ?_
  refine S_istore_n (ls1 := .ref T :: [.int 0, .int 0]) dX8_ease_7 (by decide) rfl rfl ?_
  exact h G l T hp hK hT
theorem g8_ease_8 {d : Nat} {v1 : Int32} {v2 : Int32} {σ σ1 : S8} {r : Option Value} (h : (((σ.1 48) ≤ v2) → r = some (.int v1) ∧ σ1 = σ) ∧ ((¬ (σ.1 48) ≤ v2) → ∃ (r4 : Int32) (σ_2 : S8), Tw8 mX8_ownIll (d + 4) [.int v2] σ (some (.int r4)) σ_2 ∧ (Rn8 mX8_ease (d + 5) 8 [.int (s8_greater v1 r4), .int (v2 + 1)] (fun T => []) σ_2 r σ1))) : Rn8 mX8_ease (d + 5) 8 [.int v1, .int v2] (fun T => []) σ r σ1 := by
  intro G l T hp hK hT
  refine R_iload_n dX8_ease_8 rfl ?_
  refine R_aload_n dX8_ease_9 rfl ?_
  refine T8_get (x := σ.1 48) hT dX8_ease_10 fl8_387 ⟨by decide, rfl⟩ rfl ?_
  refine R_icmp_ge 32 dX8_ease_13 (by decide) (fun c1 => ?_) (fun c1 => ?_)
  · replace h := h.1 c1
    refine R_iload_n dX8_ease_32 rfl ?_
    exact R_iret dX8_ease_33 rfl rfl ⟨h.1.symm, by rw [h.2]⟩
  · replace h := h.2 c1
    refine R_iload_n dX8_ease_16 rfl ?_
    refine R_aload_n dX8_ease_17 rfl ?_
    refine R_iload_n dX8_ease_18 rfl ?_
    obtain ⟨r4, σ_2, e3, h⟩ := h
    refine T8_call [.int v2] hK hT dX8_ease_19 cv8_521 rfl rfl rfl (Nat.le_of_ble_eq_true rfl) e3 ?_
    show RnH [] G l mX8_ease (d + 5) (fun v hp1 => v = r ∧ hp1 = tw T σ1 hp) noX 22 (.ref T :: [.int v1, .int v2]) [.int r4, .int v1] (tw T σ_2 hp) 0 0
    refine T8_callS [.int v1, .int r4] dX8_ease_22 cs8_437 rfl rfl (Nat.le_of_ble_eq_true rfl) (st8_greater (d + 3) v1 r4) ?_
    show RnH [] G l mX8_ease (d + 5) (fun v hp1 => v = r ∧ hp1 = tw T σ1 hp) noX 25 (.ref T :: [.int v1, .int v2]) [.int (s8_greater v1 r4)] (tw T σ_2 hp) 0 0
    refine S_istore_n (ls1 := .ref T :: [.int (s8_greater v1 r4), .int v2]) dX8_ease_25 (by decide) rfl rfl ?_
    refine S_iinc (v := v2 + 1) (ls1 := .ref T :: [.int (s8_greater v1 r4), .int (v2 + 1)]) dX8_ease_26 rfl rfl (by decide) rfl rfl ?_
    refine R_goto 8 dX8_ease_29 (by decide) ?_
    exact h G l T hp hK hT
theorem g8_fitsOwn_0 {d : Nat} {v1 : Int32} {σ σ1 : S8} {r : Option Value} (h : vp_in (6 + v1) 39 ∧ (∃ (r4 : Int32) (σ_2 : S8), Tw8 mX8_fits (d + 4) [.int v1, .int (σ.2.1 60 (6 + v1).toNatClampNeg)] σ (some (.int r4)) σ_2 ∧ (isB r4 ∧ (r = some (.int r4) ∧ σ1 = σ_2)))) : Rn8 mX8_fitsOwn (d + 5) 0 [.int v1] (fun T => []) σ r σ1 := by
  intro G l T hp hK hT
  refine R_aload_n dX8_fitsOwn_0 rfl ?_
  refine R_iload_n dX8_fitsOwn_1 rfl ?_
  refine R_aload_n dX8_fitsOwn_2 rfl ?_
  refine T8_geta hT dX8_fitsOwn_3 fl8_96 ⟨by decide, by decide, by decide⟩ ?_
  refine R_bipush (v := 6) dX8_fitsOwn_6 (by decide) ?_
  refine R_iload_n dX8_fitsOwn_8 rfl ?_
  refine R_iadd dX8_fitsOwn_9 ?_
  have b1 := h.1
  replace h := h.2
  refine T8_iald (x := σ.2.1 60 (6 + v1).toNatClampNeg) hT dX8_fitsOwn_10 ⟨by decide, rfl⟩ b1 rfl ?_
  obtain ⟨r4, σ_2, e3, h⟩ := h
  refine T8_call [.int v1, .int (σ.2.1 60 (6 + v1).toNatClampNeg)] hK hT dX8_fitsOwn_11 cv8_424 rfl rfl rfl (Nat.le_of_ble_eq_true rfl) e3 ?_
  show RnH [] G l mX8_fitsOwn (d + 5) (fun v hp1 => v = r ∧ hp1 = tw T σ1 hp) noX 14 (.ref T :: [.int v1]) [.int r4] (tw T σ_2 hp) 0 0
  have b9 := h.1
  replace h := h.2
  exact R_iret dX8_fitsOwn_14 rfl b9 ⟨h.1.symm, by rw [h.2]⟩
theorem g8_formula_0 {d : Nat} {σ σ1 : S8} {r : Option Value} (h : ∃ σ_1 : S8, Tw8 mX8_token (d + 4) [] σ none σ_1 ∧ (∃ σ_3 : S8, Tw8 mX8_unit (d + 4) [] (upd (upd (upd (upd (upd σ_1.1 24 1) 17 0) 19 0) 23 0) 22 0, σ_1.2.1, σ_1.2.2.1, σ_1.2.2.2) none σ_3 ∧ (Rn8 mX8_formula (d + 5) 35 [.int 1, U_] (fun T => []) σ_3 r σ1))) : Rn8 mX8_formula (d + 5) 0 [U_, U_] (fun T => []) σ r σ1 := by
  intro G l T hp hK hT
  refine R_aload_n dX8_formula_0 rfl ?_
  obtain ⟨σ_1, e2, h⟩ := h
  refine T8_call [] hK hT dX8_formula_1 cv8_235 rfl rfl rfl (Nat.le_of_ble_eq_true rfl) e2 ?_
  show RnH [] G l mX8_formula (d + 5) (fun v hp1 => v = r ∧ hp1 = tw T σ1 hp) noX 4 (.ref T :: [U_, U_]) [] (tw T σ_1 hp) 0 0
  refine R_aload_n dX8_formula_4 rfl ?_
  refine R_iconst (v := 1) dX8_formula_5 (by decide) ?_
  refine T8_put (σ9 := (upd σ_1.1 24 1, σ_1.2.1, σ_1.2.2.1, σ_1.2.2.2)) hK hT dX8_formula_6 fl8_291 ft8_24 rfl rfl ⟨by decide, rfl⟩ rfl ?_
  refine R_aload_n dX8_formula_9 rfl ?_
  refine R_iconst (v := 0) dX8_formula_10 (by decide) ?_
  refine T8_put (σ9 := (upd (upd σ_1.1 24 1) 17 0, σ_1.2.1, σ_1.2.2.1, σ_1.2.2.2)) hK hT dX8_formula_11 fl8_253 ft8_17 rfl rfl ⟨by decide, rfl⟩ rfl ?_
  refine R_aload_n dX8_formula_14 rfl ?_
  refine R_iconst (v := 0) dX8_formula_15 (by decide) ?_
  refine T8_put (σ9 := (upd (upd (upd σ_1.1 24 1) 17 0) 19 0, σ_1.2.1, σ_1.2.2.1, σ_1.2.2.2)) hK hT dX8_formula_16 fl8_256 ft8_19 rfl rfl ⟨by decide, rfl⟩ rfl ?_
  refine R_aload_n dX8_formula_19 rfl ?_
  refine R_iconst (v := 0) dX8_formula_20 (by decide) ?_
  refine T8_put (σ9 := (upd (upd (upd (upd σ_1.1 24 1) 17 0) 19 0) 23 0, σ_1.2.1, σ_1.2.2.1, σ_1.2.2.2)) hK hT dX8_formula_21 fl8_266 ft8_23 rfl rfl ⟨by decide, rfl⟩ rfl ?_
  refine R_aload_n dX8_formula_24 rfl ?_
  refine R_iconst (v := 0) dX8_formula_25 (by decide) ?_
  refine T8_put (σ9 := (upd (upd (upd (upd (upd σ_1.1 24 1) 17 0) 19 0) 23 0) 22 0, σ_1.2.1, σ_1.2.2.1, σ_1.2.2.2)) hK hT dX8_formula_26 fl8_272 ft8_22 rfl rfl ⟨by decide, rfl⟩ rfl ?_
  refine R_aload_n dX8_formula_29 rfl ?_
  obtain ⟨σ_3, e4, h⟩ := h
  refine T8_call [] hK hT dX8_formula_30 cv8_295 rfl rfl rfl (Nat.le_of_ble_eq_true rfl) e4 ?_
  show RnH [] G l mX8_formula (d + 5) (fun v hp1 => v = r ∧ hp1 = tw T σ1 hp) noX 33 (.ref T :: [U_, U_]) [] (tw T σ_3 hp) 0 0
  refine R_iconst (v := 1) dX8_formula_33 (by decide) ?_
  refine S_istore_n (ls1 := .ref T :: [.int 1, U_]) dX8_formula_34 (by decide) rfl rfl ?_
  exact h G l T hp hK hT
theorem g8_formula_35 {d : Nat} {v1 : Int32} {σ σ1 : S8} {r : Option Value} (h : ((v1 = 0) → Rn8 mX8_formula (d + 5) 162 [.int v1, U_] (fun T => []) σ r σ1) ∧ ((¬ v1 = 0) → ((¬ (σ.1 2) = 0) → Rn8 mX8_formula (d + 5) 162 [.int v1, U_] (fun T => []) σ r σ1) ∧ (((σ.1 2) = 0) → ∃ (r5 : Int32) (σ_3 : S8), Tw8 mX8_sign (d + 4) [] σ (some (.int r5)) σ_3 ∧ (((¬ (σ_3.1 6) = 41) → Rn8 mX8_formula (d + 5) 99 [.int v1, .int r5] (fun T => []) σ_3 r σ1) ∧ (((σ_3.1 6) = 41) → ∃ (r9 : Int32) (σ_7 : S8), Tw8 mX8_hasBracket (d + 4) [] σ_3 (some (.int r9)) σ_7 ∧ (((r9 = 0) → Rn8 mX8_formula (d + 5) 99 [.int v1, .int r5] (fun T => []) σ_7 r σ1) ∧ ((¬ r9 = 0) → ∃ σ_11 : S8, Tw8 mX8_close (d + 4) [.int 0] σ_7 none σ_11 ∧ (∃ σ_13 : S8, Tw8 mX8_token (d + 4) [] (upd (upd σ_11.1 19 ((σ_11.1 19) - 1)) 23 ((σ_11.1 23) - 1), σ_11.2.1, σ_11.2.2.1, σ_11.2.2.2) none σ_13 ∧ (Rn8 mX8_formula (d + 5) 35 [.int v1, U_] (fun T => []) σ_13 r σ1))))))))) : Rn8 mX8_formula (d + 5) 35 [.int v1, U_] (fun T => []) σ r σ1 := by
  intro G l T hp hK hT
  refine R_iload_n dX8_formula_35 rfl ?_
  refine R_if_eq 162 dX8_formula_36 (by decide) (fun c1 => ?_) (fun c1 => ?_)
  · replace h := h.1 c1
    exact h G l T hp hK hT
  · replace h := h.2 c1
    refine R_aload_n dX8_formula_39 rfl ?_
    refine T8_get (x := σ.1 2) hT dX8_formula_40 fl8_179 ⟨by decide, rfl⟩ rfl ?_
    refine R_if_ne 162 dX8_formula_43 (by decide) (fun c2 => ?_) (fun c2 => ?_)
    · replace h := h.1 c2
      exact h G l T hp hK hT
    · replace h := h.2 c2
      refine R_aload_n dX8_formula_46 rfl ?_
      obtain ⟨r5, σ_3, e4, h⟩ := h
      refine T8_call [] hK hT dX8_formula_47 cv8_298 rfl rfl rfl (Nat.le_of_ble_eq_true rfl) e4 ?_
      show RnH [] G l mX8_formula (d + 5) (fun v hp1 => v = r ∧ hp1 = tw T σ1 hp) noX 50 (.ref T :: [.int v1, U_]) [.int r5] (tw T σ_3 hp) 0 0
      refine S_istore_n (ls1 := .ref T :: [.int v1, .int r5]) dX8_formula_50 (by decide) rfl rfl ?_
      refine R_aload_n dX8_formula_51 rfl ?_
      refine T8_get (x := σ_3.1 6) hT dX8_formula_52 fl8_166 ⟨by decide, rfl⟩ rfl ?_
      refine R_bipush (v := 41) dX8_formula_55 (by decide) ?_
      refine R_icmp_ne 99 dX8_formula_57 (by decide) (fun c6 => ?_) (fun c6 => ?_)
      · replace h := h.1 c6
        exact h G l T hp hK hT
      · replace h := h.2 c6
        refine R_aload_n dX8_formula_60 rfl ?_
        obtain ⟨r9, σ_7, e8, h⟩ := h
        refine T8_call [] hK hT dX8_formula_61 cv8_301 rfl rfl rfl (Nat.le_of_ble_eq_true rfl) e8 ?_
        show RnH [] G l mX8_formula (d + 5) (fun v hp1 => v = r ∧ hp1 = tw T σ1 hp) noX 64 (.ref T :: [.int v1, .int r5]) [.int r9] (tw T σ_7 hp) 0 0
        refine R_if_eq 99 dX8_formula_64 (by decide) (fun c10 => ?_) (fun c10 => ?_)
        · replace h := h.1 c10
          exact h G l T hp hK hT
        · replace h := h.2 c10
          refine R_aload_n dX8_formula_67 rfl ?_
          refine R_iconst (v := 0) dX8_formula_68 (by decide) ?_
          obtain ⟨σ_11, e12, h⟩ := h
          refine T8_call [.int 0] hK hT dX8_formula_69 cv8_304 rfl rfl rfl (Nat.le_of_ble_eq_true rfl) e12 ?_
          show RnH [] G l mX8_formula (d + 5) (fun v hp1 => v = r ∧ hp1 = tw T σ1 hp) noX 72 (.ref T :: [.int v1, .int r5]) [] (tw T σ_11 hp) 0 0
          refine R_aload_n dX8_formula_72 rfl ?_
          refine R_dup dX8_formula_73 rfl ?_
          refine T8_get (x := σ_11.1 19) hT dX8_formula_74 fl8_256 ⟨by decide, rfl⟩ rfl ?_
          refine R_iconst (v := 1) dX8_formula_77 (by decide) ?_
          refine R_isub dX8_formula_78 ?_
          refine T8_put (σ9 := (upd σ_11.1 19 ((σ_11.1 19) - 1), σ_11.2.1, σ_11.2.2.1, σ_11.2.2.2)) hK hT dX8_formula_79 fl8_256 ft8_19 rfl rfl ⟨by decide, rfl⟩ rfl ?_
          refine R_aload_n dX8_formula_82 rfl ?_
          refine R_dup dX8_formula_83 rfl ?_
          refine T8_get (x := σ_11.1 23) hT dX8_formula_84 fl8_266 ⟨by decide, rfl⟩ rfl ?_
          refine R_iconst (v := 1) dX8_formula_87 (by decide) ?_
          refine R_isub dX8_formula_88 ?_
          refine T8_put (σ9 := (upd (upd σ_11.1 19 ((σ_11.1 19) - 1)) 23 ((σ_11.1 23) - 1), σ_11.2.1, σ_11.2.2.1, σ_11.2.2.2)) hK hT dX8_formula_89 fl8_266 ft8_23 rfl rfl ⟨by decide, rfl⟩ rfl ?_
          refine R_aload_n dX8_formula_92 rfl ?_
          obtain ⟨σ_13, e14, h⟩ := h
          refine T8_call [] hK hT dX8_formula_93 cv8_235 rfl rfl rfl (Nat.le_of_ble_eq_true rfl) e14 ?_
          show RnH [] G l mX8_formula (d + 5) (fun v hp1 => v = r ∧ hp1 = tw T σ1 hp) noX 96 (.ref T :: [.int v1, .int r5]) [] (tw T σ_13 hp) 0 0
          refine R_goto 159 dX8_formula_96 (by decide) ?_
          refine R_goto 35 dX8_formula_159 (by decide) ?_
          refine R_drop 2 ?_
          exact h G l T hp hK hT
theorem g8_formula_99 {d : Nat} {v1 : Int32} {v2 : Int32} {σ σ1 : S8} {r : Option Value} (h : ((v2 = 0) → Rn8 mX8_formula (d + 5) 35 [.int 0, U_] (fun T => []) σ r σ1) ∧ ((¬ v2 = 0) → ((¬ (s8_tight v2) = 4) → Rn8 mX8_formula (d + 5) 118 [.int v1, .int v2] (fun T => []) σ r σ1) ∧ (((s8_tight v2) = 4) → ∃ (r5 : Int32) (σ_3 : S8), Tw8 mX8_hasRelation (d + 4) [] σ (some (.int r5)) σ_3 ∧ (((¬ r5 = 0) → Rn8 mX8_formula (d + 5) 35 [.int 0, U_] (fun T => []) σ_3 r σ1) ∧ ((r5 = 0) → Rn8 mX8_formula (d + 5) 118 [.int v1, .int v2] (fun T => []) σ_3 r σ1))))) : Rn8 mX8_formula (d + 5) 99 [.int v1, .int v2] (fun T => []) σ r σ1 := by
  intro G l T hp hK hT
  refine R_iload_n dX8_formula_99 rfl ?_
  refine R_if_eq 157 dX8_formula_100 (by decide) (fun c1 => ?_) (fun c1 => ?_)
  · replace h := h.1 c1
    refine R_iconst (v := 0) dX8_formula_157 (by decide) ?_
    refine S_istore_n (ls1 := .ref T :: [.int 0, .int v2]) dX8_formula_158 (by decide) rfl rfl ?_
    refine R_goto 35 dX8_formula_159 (by decide) ?_
    refine R_drop 2 ?_
    exact h G l T hp hK hT
  · replace h := h.2 c1
    refine R_iload_n dX8_formula_103 rfl ?_
    refine T8_callS [.int v2] dX8_formula_104 cs8_259 rfl rfl (Nat.le_of_ble_eq_true rfl) (st8_tight (d + 3) v2) ?_
    show RnH [] G l mX8_formula (d + 5) (fun v hp1 => v = r ∧ hp1 = tw T σ1 hp) noX 107 (.ref T :: [.int v1, .int v2]) [.int (s8_tight v2)] (tw T σ hp) 0 0
    refine R_iconst (v := 4) dX8_formula_107 (by decide) ?_
    refine R_icmp_ne 118 dX8_formula_108 (by decide) (fun c2 => ?_) (fun c2 => ?_)
    · replace h := h.1 c2
      exact h G l T hp hK hT
    · replace h := h.2 c2
      refine R_aload_n dX8_formula_111 rfl ?_
      obtain ⟨r5, σ_3, e4, h⟩ := h
      refine T8_call [] hK hT dX8_formula_112 cv8_307 rfl rfl rfl (Nat.le_of_ble_eq_true rfl) e4 ?_
      show RnH [] G l mX8_formula (d + 5) (fun v hp1 => v = r ∧ hp1 = tw T σ1 hp) noX 115 (.ref T :: [.int v1, .int v2]) [.int r5] (tw T σ_3 hp) 0 0
      refine R_if_ne 157 dX8_formula_115 (by decide) (fun c6 => ?_) (fun c6 => ?_)
      · replace h := h.1 c6
        refine R_iconst (v := 0) dX8_formula_157 (by decide) ?_
        refine S_istore_n (ls1 := .ref T :: [.int 0, .int v2]) dX8_formula_158 (by decide) rfl rfl ?_
        refine R_goto 35 dX8_formula_159 (by decide) ?_
        refine R_drop 2 ?_
        exact h G l T hp hK hT
      · replace h := h.2 c6
        exact h G l T hp hK hT
theorem g8_formula_162 {d : Nat} {v1 : Int32} {σ σ1 : S8} {r : Option Value} (h : ((¬ (σ.1 2) = 0) → ((¬ (σ.1 2) = 0) → r = none ∧ σ1 = σ) ∧ (((σ.1 2) = 0) → ∃ σ_3 : S8, Tw8 mX8_close (d + 4) [.int 0] σ none σ_3 ∧ (r = none ∧ σ1 = σ_3))) ∧ (((σ.1 2) = 0) → ∃ (r7 : Int32) (σ_5 : S8), Tw8 mX8_hasBracket (d + 4) [] σ (some (.int r7)) σ_5 ∧ (((r7 = 0) → ((¬ (σ_5.1 2) = 0) → r = none ∧ σ1 = σ_5) ∧ (((σ_5.1 2) = 0) → ∃ σ_10 : S8, Tw8 mX8_close (d + 4) [.int 0] σ_5 none σ_10 ∧ (r = none ∧ σ1 = σ_10))) ∧ ((¬ r7 = 0) → ∃ σ_12 : S8, Tw8 mX8_wrong (d + 4) [.int 2] σ_5 none σ_12 ∧ (((¬ (σ_12.1 2) = 0) → r = none ∧ σ1 = σ_12) ∧ (((σ_12.1 2) = 0) → ∃ σ_15 : S8, Tw8 mX8_close (d + 4) [.int 0] σ_12 none σ_15 ∧ (r = none ∧ σ1 = σ_15))))))) : Rn8 mX8_formula (d + 5) 162 [.int v1, U_] (fun T => []) σ r σ1 := by
  intro G l T hp hK hT
  refine R_aload_n dX8_formula_162 rfl ?_
  refine T8_get (x := σ.1 2) hT dX8_formula_163 fl8_179 ⟨by decide, rfl⟩ rfl ?_
  refine R_if_ne 181 dX8_formula_166 (by decide) (fun c1 => ?_) (fun c1 => ?_)
  · replace h := h.1 c1
    refine R_aload_n dX8_formula_181 rfl ?_
    refine T8_get (x := σ.1 2) hT dX8_formula_182 fl8_179 ⟨by decide, rfl⟩ rfl ?_
    refine R_if_ne 193 dX8_formula_185 (by decide) (fun c2 => ?_) (fun c2 => ?_)
    · replace h := h.1 c2
      exact R_vret dX8_formula_193 rfl ⟨h.1.symm, by rw [h.2]⟩
    · replace h := h.2 c2
      refine R_aload_n dX8_formula_188 rfl ?_
      refine R_iconst (v := 0) dX8_formula_189 (by decide) ?_
      obtain ⟨σ_3, e4, h⟩ := h
      refine T8_call [.int 0] hK hT dX8_formula_190 cv8_304 rfl rfl rfl (Nat.le_of_ble_eq_true rfl) e4 ?_
      show RnH [] G l mX8_formula (d + 5) (fun v hp1 => v = r ∧ hp1 = tw T σ1 hp) noX 193 (.ref T :: [.int v1, U_]) [] (tw T σ_3 hp) 0 0
      exact R_vret dX8_formula_193 rfl ⟨h.1.symm, by rw [h.2]⟩
  · replace h := h.2 c1
    refine R_aload_n dX8_formula_169 rfl ?_
    obtain ⟨r7, σ_5, e6, h⟩ := h
    refine T8_call [] hK hT dX8_formula_170 cv8_301 rfl rfl rfl (Nat.le_of_ble_eq_true rfl) e6 ?_
    show RnH [] G l mX8_formula (d + 5) (fun v hp1 => v = r ∧ hp1 = tw T σ1 hp) noX 173 (.ref T :: [.int v1, U_]) [.int r7] (tw T σ_5 hp) 0 0
    refine R_if_eq 181 dX8_formula_173 (by decide) (fun c8 => ?_) (fun c8 => ?_)
    · replace h := h.1 c8
      refine R_aload_n dX8_formula_181 rfl ?_
      refine T8_get (x := σ_5.1 2) hT dX8_formula_182 fl8_179 ⟨by decide, rfl⟩ rfl ?_
      refine R_if_ne 193 dX8_formula_185 (by decide) (fun c9 => ?_) (fun c9 => ?_)
      · replace h := h.1 c9
        exact R_vret dX8_formula_193 rfl ⟨h.1.symm, by rw [h.2]⟩
      · replace h := h.2 c9
        refine R_aload_n dX8_formula_188 rfl ?_
        refine R_iconst (v := 0) dX8_formula_189 (by decide) ?_
        obtain ⟨σ_10, e11, h⟩ := h
        refine T8_call [.int 0] hK hT dX8_formula_190 cv8_304 rfl rfl rfl (Nat.le_of_ble_eq_true rfl) e11 ?_
        show RnH [] G l mX8_formula (d + 5) (fun v hp1 => v = r ∧ hp1 = tw T σ1 hp) noX 193 (.ref T :: [.int v1, U_]) [] (tw T σ_10 hp) 0 0
        exact R_vret dX8_formula_193 rfl ⟨h.1.symm, by rw [h.2]⟩
    · replace h := h.2 c8
      refine R_aload_n dX8_formula_176 rfl ?_
      refine R_iconst (v := 2) dX8_formula_177 (by decide) ?_
      obtain ⟨σ_12, e13, h⟩ := h
      refine T8_call [.int 2] hK hT dX8_formula_178 cv8_232 rfl rfl rfl (Nat.le_of_ble_eq_true rfl) e13 ?_
      show RnH [] G l mX8_formula (d + 5) (fun v hp1 => v = r ∧ hp1 = tw T σ1 hp) noX 181 (.ref T :: [.int v1, U_]) [] (tw T σ_12 hp) 0 0
      refine R_aload_n dX8_formula_181 rfl ?_
      refine T8_get (x := σ_12.1 2) hT dX8_formula_182 fl8_179 ⟨by decide, rfl⟩ rfl ?_
      refine R_if_ne 193 dX8_formula_185 (by decide) (fun c14 => ?_) (fun c14 => ?_)
      · replace h := h.1 c14
        exact R_vret dX8_formula_193 rfl ⟨h.1.symm, by rw [h.2]⟩
      · replace h := h.2 c14
        refine R_aload_n dX8_formula_188 rfl ?_
        refine R_iconst (v := 0) dX8_formula_189 (by decide) ?_
        obtain ⟨σ_15, e16, h⟩ := h
        refine T8_call [.int 0] hK hT dX8_formula_190 cv8_304 rfl rfl rfl (Nat.le_of_ble_eq_true rfl) e16 ?_
        show RnH [] G l mX8_formula (d + 5) (fun v hp1 => v = r ∧ hp1 = tw T σ1 hp) noX 193 (.ref T :: [.int v1, U_]) [] (tw T σ_15 hp) 0 0
        exact R_vret dX8_formula_193 rfl ⟨h.1.symm, by rw [h.2]⟩
theorem g8_formula_118 {d : Nat} {v1 : Int32} {v2 : Int32} {σ σ1 : S8} {r : Option Value} (h : ∃ σ_1 : S8, Tw8 mX8_close (d + 4) [.int (s8_tight v2)] σ none σ_1 ∧ (vp_in (σ_1.1 19) 160 ∧ (∃ σ_4 : S8, Tw8 mX8_token (d + 4) [] (upd σ_1.1 19 ((σ_1.1 19) + 1), upA σ_1.2.1 15 (upd (σ_1.2.1 15) (σ_1.1 19).toNatClampNeg v2), σ_1.2.2.1, σ_1.2.2.2) none σ_4 ∧ (∃ σ_6 : S8, Tw8 mX8_unit (d + 4) [] σ_4 none σ_6 ∧ (Rn8 mX8_formula (d + 5) 35 [.int v1, U_] (fun T => []) σ_6 r σ1))))) : Rn8 mX8_formula (d + 5) 118 [.int v1, .int v2] (fun T => []) σ r σ1 := by
  intro G l T hp hK hT
  refine R_aload_n dX8_formula_118 rfl ?_
  refine R_iload_n dX8_formula_119 rfl ?_
  refine T8_callS [.int v2] dX8_formula_120 cs8_259 rfl rfl (Nat.le_of_ble_eq_true rfl) (st8_tight (d + 3) v2) ?_
  show RnH [] G l mX8_formula (d + 5) (fun v hp1 => v = r ∧ hp1 = tw T σ1 hp) noX 123 (.ref T :: [.int v1, .int v2]) [.int (s8_tight v2), .ref T] (tw T σ hp) 0 0
  obtain ⟨σ_1, e2, h⟩ := h
  refine T8_call [.int (s8_tight v2)] hK hT dX8_formula_123 cv8_304 rfl rfl rfl (Nat.le_of_ble_eq_true rfl) e2 ?_
  show RnH [] G l mX8_formula (d + 5) (fun v hp1 => v = r ∧ hp1 = tw T σ1 hp) noX 126 (.ref T :: [.int v1, .int v2]) [] (tw T σ_1 hp) 0 0
  refine R_aload_n dX8_formula_126 rfl ?_
  refine T8_geta hT dX8_formula_127 fl8_33 ⟨by decide, by decide, by decide⟩ ?_
  refine R_aload_n dX8_formula_130 rfl ?_
  refine T8_get (x := σ_1.1 19) hT dX8_formula_131 fl8_256 ⟨by decide, rfl⟩ rfl ?_
  refine R_iload_n dX8_formula_134 rfl ?_
  have b3 := h.1
  refine T8_iast (σ9 := (σ_1.1, upA σ_1.2.1 15 (upd (σ_1.2.1 15) (σ_1.1 19).toNatClampNeg v2), σ_1.2.2.1, σ_1.2.2.2)) hK hT dX8_formula_135 ⟨by decide, rfl⟩ b3 rfl ?_
  replace h := h.2
  refine R_aload_n dX8_formula_136 rfl ?_
  refine R_dup dX8_formula_137 rfl ?_
  refine T8_get (x := σ_1.1 19) hT dX8_formula_138 fl8_256 ⟨by decide, rfl⟩ rfl ?_
  refine R_iconst (v := 1) dX8_formula_141 (by decide) ?_
  refine R_iadd dX8_formula_142 ?_
  refine T8_put (σ9 := (upd σ_1.1 19 ((σ_1.1 19) + 1), upA σ_1.2.1 15 (upd (σ_1.2.1 15) (σ_1.1 19).toNatClampNeg v2), σ_1.2.2.1, σ_1.2.2.2)) hK hT dX8_formula_143 fl8_256 ft8_19 rfl rfl ⟨by decide, rfl⟩ rfl ?_
  refine R_aload_n dX8_formula_146 rfl ?_
  obtain ⟨σ_4, e5, h⟩ := h
  refine T8_call [] hK hT dX8_formula_147 cv8_235 rfl rfl rfl (Nat.le_of_ble_eq_true rfl) e5 ?_
  show RnH [] G l mX8_formula (d + 5) (fun v hp1 => v = r ∧ hp1 = tw T σ1 hp) noX 150 (.ref T :: [.int v1, .int v2]) [] (tw T σ_4 hp) 0 0
  refine R_aload_n dX8_formula_150 rfl ?_
  obtain ⟨σ_6, e7, h⟩ := h
  refine T8_call [] hK hT dX8_formula_151 cv8_295 rfl rfl rfl (Nat.le_of_ble_eq_true rfl) e7 ?_
  show RnH [] G l mX8_formula (d + 5) (fun v hp1 => v = r ∧ hp1 = tw T σ1 hp) noX 154 (.ref T :: [.int v1, .int v2]) [] (tw T σ_6 hp) 0 0
  refine R_goto 159 dX8_formula_154 (by decide) ?_
  refine R_goto 35 dX8_formula_159 (by decide) ?_
  refine R_drop 2 ?_
  exact h G l T hp hK hT
theorem g8_law_0 {d : Nat} {v1 : Int32} {σ σ1 : S8} {r : Option Value} (h : ((¬ (s8_isIn v1 0 999) = 0) → ∃ σ_2 : S8, Tw8 mX8_fill (d + 4) [] σ none σ_2 ∧ (Rn8 mX8_law (d + 5) 21 [.int v1, .int 0, .int 0] (fun T => []) σ_2 r σ1)) ∧ (((s8_isIn v1 0 999) = 0) → r = some (.int (-1)) ∧ σ1 = σ)) : Rn8 mX8_law (d + 5) 0 [.int v1, U_, U_] (fun T => []) σ r σ1 := by
  intro G l T hp hK hT
  refine R_iload_n dX8_law_0 rfl ?_
  refine R_iconst (v := 0) dX8_law_1 (by decide) ?_
  refine R_sipush (v := 999) dX8_law_2 (by decide) ?_
  refine T8_callS [.int v1, .int 0, .int 999] dX8_law_5 cs8_417 rfl rfl (Nat.le_of_ble_eq_true rfl) (st8_isIn (d + 3) v1 0 999) ?_
  show RnH [] G l mX8_law (d + 5) (fun v hp1 => v = r ∧ hp1 = tw T σ1 hp) noX 8 (.ref T :: [.int v1, U_, U_]) [.int (s8_isIn v1 0 999)] (tw T σ hp) 0 0
  refine R_if_ne 13 dX8_law_8 (by decide) (fun c1 => ?_) (fun c1 => ?_)
  · replace h := h.1 c1
    refine R_aload_n dX8_law_13 rfl ?_
    obtain ⟨σ_2, e3, h⟩ := h
    refine T8_call [] hK hT dX8_law_14 cv8_449 rfl rfl rfl (Nat.le_of_ble_eq_true rfl) e3 ?_
    show RnH [] G l mX8_law (d + 5) (fun v hp1 => v = r ∧ hp1 = tw T σ1 hp) noX 17 (.ref T :: [.int v1, U_, U_]) [] (tw T σ_2 hp) 0 0
    refine R_iconst (v := 0) dX8_law_17 (by decide) ?_
    refine S_istore_n (ls1 := .ref T :: [.int v1, .int 0, U_]) dX8_law_18 (by decide) rfl rfl ?_
    refine R_iconst (v := 0) dX8_law_19 (by decide) ?_
    refine S_istore_n (ls1 := .ref T :: [.int v1, .int 0, .int 0]) dX8_law_20 (by decide) rfl rfl ?_
    exact h G l T hp hK hT
  · replace h := h.2 c1
    refine R_iconst (v := (-1)) dX8_law_11 (by decide) ?_
    exact R_iret dX8_law_12 rfl rfl ⟨h.1.symm, by rw [h.2]⟩
theorem g8_law_21 {d : Nat} {v1 : Int32} {v2 : Int32} {v3 : Int32} {σ σ1 : S8} {r : Option Value} (h : (((σ.1 48) ≤ v3) → r = some (.int v2) ∧ σ1 = σ) ∧ ((¬ (σ.1 48) ≤ v3) → ∃ (r4 : Int32) (σ_2 : S8), Tw8 mX8_ownIll (d + 4) [.int v3] σ (some (.int r4)) σ_2 ∧ (((r4 < 0) → Rn8 mX8_law (d + 5) 21 [.int v1, .int (v2 + (s8_truth 0)), .int (v3 + 1)] (fun T => []) σ_2 r σ1) ∧ ((¬ r4 < 0) → ∃ (r8 : Int32) (σ_6 : S8), Tw8 mX8_ownIll (d + 4) [.int v3] σ_2 (some (.int r8)) σ_6 ∧ (Rn8 mX8_law (d + 5) 21 [.int v1, .int (v2 + (s8_truth (if v1 < r8 then 0 else 1))), .int (v3 + 1)] (fun T => []) σ_6 r σ1))))) : Rn8 mX8_law (d + 5) 21 [.int v1, .int v2, .int v3] (fun T => []) σ r σ1 := by
  intro G l T hp hK hT
  refine R_iload_n dX8_law_21 rfl ?_
  refine R_aload_n dX8_law_22 rfl ?_
  refine T8_get (x := σ.1 48) hT dX8_law_23 fl8_387 ⟨by decide, rfl⟩ rfl ?_
  refine R_icmp_ge 63 dX8_law_26 (by decide) (fun c1 => ?_) (fun c1 => ?_)
  · replace h := h.1 c1
    refine R_iload_n dX8_law_63 rfl ?_
    exact R_iret dX8_law_64 rfl rfl ⟨h.1.symm, by rw [h.2]⟩
  · replace h := h.2 c1
    refine R_iload_n dX8_law_29 rfl ?_
    refine R_aload_n dX8_law_30 rfl ?_
    refine R_iload_n dX8_law_31 rfl ?_
    obtain ⟨r4, σ_2, e3, h⟩ := h
    refine T8_call [.int v3] hK hT dX8_law_32 cv8_521 rfl rfl rfl (Nat.le_of_ble_eq_true rfl) e3 ?_
    show RnH [] G l mX8_law (d + 5) (fun v hp1 => v = r ∧ hp1 = tw T σ1 hp) noX 35 (.ref T :: [.int v1, .int v2, .int v3]) [.int r4, .int v2] (tw T σ_2 hp) 0 0
    refine R_if_lt 51 dX8_law_35 (by decide) (fun c5 => ?_) (fun c5 => ?_)
    · replace h := h.1 c5
      refine R_iconst (v := 0) dX8_law_51 (by decide) ?_
      refine T8_callS [.int 0] dX8_law_52 cs8_310 rfl rfl (Nat.le_of_ble_eq_true rfl) (st8_truth (d + 3) 0) ?_
      show RnH [] G l mX8_law (d + 5) (fun v hp1 => v = r ∧ hp1 = tw T σ1 hp) noX 55 (.ref T :: [.int v1, .int v2, .int v3]) [.int (s8_truth 0), .int v2] (tw T σ_2 hp) 0 0
      refine R_iadd dX8_law_55 ?_
      refine S_istore_n (ls1 := .ref T :: [.int v1, .int (v2 + (s8_truth 0)), .int v3]) dX8_law_56 (by decide) rfl rfl ?_
      refine S_iinc (v := v3 + 1) (ls1 := .ref T :: [.int v1, .int (v2 + (s8_truth 0)), .int (v3 + 1)]) dX8_law_57 rfl rfl (by decide) rfl rfl ?_
      refine R_goto 21 dX8_law_60 (by decide) ?_
      exact h G l T hp hK hT
    · replace h := h.2 c5
      refine R_aload_n dX8_law_38 rfl ?_
      refine R_iload_n dX8_law_39 rfl ?_
      obtain ⟨r8, σ_6, e7, h⟩ := h
      refine T8_call [.int v3] hK hT dX8_law_40 cv8_521 rfl rfl rfl (Nat.le_of_ble_eq_true rfl) e7 ?_
      show RnH [] G l mX8_law (d + 5) (fun v hp1 => v = r ∧ hp1 = tw T σ1 hp) noX 43 (.ref T :: [.int v1, .int v2, .int v3]) [.int r8, .int v2] (tw T σ_6 hp) 0 0
      refine R_iload_n dX8_law_43 rfl ?_
      have J9 : RnH [] G l mX8_law (d + 5) (fun v hp1 => v = r ∧ hp1 = tw T σ1 hp) noX 52 (.ref T :: [.int v1, .int v2, .int v3]) [.int (if v1 < r8 then 0 else 1), .int v2] (tw T σ_6 hp) 0 0 := by
        refine T8_callS [.int (if v1 < r8 then 0 else 1)] dX8_law_52 cs8_310 rfl rfl (Nat.le_of_ble_eq_true rfl) (st8_truth (d + 3) (if v1 < r8 then 0 else 1)) ?_
        show RnH [] G l mX8_law (d + 5) (fun v hp1 => v = r ∧ hp1 = tw T σ1 hp) noX 55 (.ref T :: [.int v1, .int v2, .int v3]) [.int (s8_truth (if v1 < r8 then 0 else 1)), .int v2] (tw T σ_6 hp) 0 0
        refine R_iadd dX8_law_55 ?_
        refine S_istore_n (ls1 := .ref T :: [.int v1, .int (v2 + (s8_truth (if v1 < r8 then 0 else 1))), .int v3]) dX8_law_56 (by decide) rfl rfl ?_
        refine S_iinc (v := v3 + 1) (ls1 := .ref T :: [.int v1, .int (v2 + (s8_truth (if v1 < r8 then 0 else 1))), .int (v3 + 1)]) dX8_law_57 rfl rfl (by decide) rfl rfl ?_
        refine R_goto 21 dX8_law_60 (by decide) ?_
        exact h G l T hp hK hT
      refine R_icmp_gt 51 dX8_law_44 (by decide) (fun c11 => ?_) (fun c11 => ?_)
      · refine R_iconst (v := 0) dX8_law_51 (by decide) ?_
        simp only [if_pos c11] at J9
        first | exact J9 | (simp only [if_pos c11]; exact J9)
      · refine R_iconst (v := 1) dX8_law_47 (by decide) ?_
        refine R_goto 52 dX8_law_48 (by decide) ?_
        simp only [if_neg c11] at J9
        first | exact J9 | (simp only [if_neg c11]; exact J9)
theorem g8_layGrowths_0 {d : Nat} {v1 : Int32} {σ σ1 : S8} {r : Option Value} (h : Rn8 mX8_layGrowths (d + 5) 4 [.int v1, .int 0, .int 0, U_] (fun T => []) σ r σ1) : Rn8 mX8_layGrowths (d + 5) 0 [.int v1, U_, U_, U_] (fun T => []) σ r σ1 := by
  intro G l T hp hK hT
  refine R_iconst (v := 0) dX8_layGrowths_0 (by decide) ?_
  refine S_istore_n (ls1 := .ref T :: [.int v1, .int 0, U_, U_]) dX8_layGrowths_1 (by decide) rfl rfl ?_
  refine R_iconst (v := 0) dX8_layGrowths_2 (by decide) ?_
  refine S_istore_n (ls1 := .ref T :: [.int v1, .int 0, .int 0, U_]) dX8_layGrowths_3 (by decide) rfl rfl ?_
  exact h G l T hp hK hT
theorem g8_layGrowths_4 {d : Nat} {v1 : Int32} {v2 : Int32} {v3 : Int32} {σ σ1 : S8} {r : Option Value} (h : ((30 < v3) → r = some (.int v2) ∧ σ1 = σ) ∧ ((¬ 30 < v3) → (((σ.1 48) ≤ 0) → r = some (.int v2) ∧ σ1 = σ) ∧ ((¬ (σ.1 48) ≤ 0) → (((σ.1 49) ≤ 0) → r = some (.int v2) ∧ σ1 = σ) ∧ ((¬ (σ.1 49) ≤ 0) → ∃ σ_4 : S8, Tw8 mX8_begin (d + 4) [] σ none σ_4 ∧ (Rn8 mX8_layGrowths (d + 5) 31 [.int v1, .int v2, .int v3, .int 0] (fun T => []) σ_4 r σ1))))) : Rn8 mX8_layGrowths (d + 5) 4 [.int v1, .int v2, .int v3, U_] (fun T => []) σ r σ1 := by
  intro G l T hp hK hT
  refine R_iload_n dX8_layGrowths_4 rfl ?_
  refine R_bipush (v := 30) dX8_layGrowths_5 (by decide) ?_
  refine R_icmp_gt 143 dX8_layGrowths_7 (by decide) (fun c1 => ?_) (fun c1 => ?_)
  · replace h := h.1 c1
    refine R_iload_n dX8_layGrowths_143 rfl ?_
    exact R_iret dX8_layGrowths_144 rfl rfl ⟨h.1.symm, by rw [h.2]⟩
  · replace h := h.2 c1
    refine R_aload_n dX8_layGrowths_10 rfl ?_
    refine T8_get (x := σ.1 48) hT dX8_layGrowths_11 fl8_387 ⟨by decide, rfl⟩ rfl ?_
    refine R_if_le 143 dX8_layGrowths_14 (by decide) (fun c2 => ?_) (fun c2 => ?_)
    · replace h := h.1 c2
      refine R_iload_n dX8_layGrowths_143 rfl ?_
      exact R_iret dX8_layGrowths_144 rfl rfl ⟨h.1.symm, by rw [h.2]⟩
    · replace h := h.2 c2
      refine R_aload_n dX8_layGrowths_17 rfl ?_
      refine T8_get (x := σ.1 49) hT dX8_layGrowths_18 fl8_390 ⟨by decide, rfl⟩ rfl ?_
      refine R_if_le 143 dX8_layGrowths_21 (by decide) (fun c3 => ?_) (fun c3 => ?_)
      · replace h := h.1 c3
        refine R_iload_n dX8_layGrowths_143 rfl ?_
        exact R_iret dX8_layGrowths_144 rfl rfl ⟨h.1.symm, by rw [h.2]⟩
      · replace h := h.2 c3
        refine R_aload_n dX8_layGrowths_24 rfl ?_
        obtain ⟨σ_4, e5, h⟩ := h
        refine T8_call [] hK hT dX8_layGrowths_25 cv8_399 rfl rfl rfl (Nat.le_of_ble_eq_true rfl) e5 ?_
        show RnH [] G l mX8_layGrowths (d + 5) (fun v hp1 => v = r ∧ hp1 = tw T σ1 hp) noX 28 (.ref T :: [.int v1, .int v2, .int v3, U_]) [] (tw T σ_4 hp) 0 0
        refine R_iconst (v := 0) dX8_layGrowths_28 (by decide) ?_
        refine S_istore (ls1 := .ref T :: [.int v1, .int v2, .int v3, .int 0]) dX8_layGrowths_29 (by decide) rfl rfl ?_
        exact h G l T hp hK hT
theorem g8_layGrowths_31 {d : Nat} {v1 : Int32} {v2 : Int32} {v3 : Int32} {v4 : Int32} {σ σ1 : S8} {r : Option Value} (h : ((20 < v4) → ∃ (r4 : Int32) (σ_2 : S8), Tw8 mX8_fitsGrowth (d + 4) [.int v3, .int v1] σ (some (.int r4)) σ_2 ∧ ((vp_in v3 31 ∧ isB r4) ∧ (vp_in v3 31 ∧ (Rn8 mX8_layGrowths (d + 5) 4 [.int v1, .int (v2 + (s8_truth ((upd (σ_2.2.1 76) v3.toNatClampNeg r4) v3.toNatClampNeg))), .int (v3 + 1), U_] (fun T => []) (σ_2.1, upA σ_2.2.1 76 (upd (σ_2.2.1 76) v3.toNatClampNeg r4), σ_2.2.2.1, σ_2.2.2.2) r σ1)))) ∧ ((¬ 20 < v4) → ∃ (r8 : Int32) (σ_6 : S8), Tw8 mX8_fits (d + 4) [.int 0, .int 0] σ (some (.int r8)) σ_6 ∧ ((vp_in ((21 * v3) + v4) 651 ∧ isB r8) ∧ (Rn8 mX8_layGrowths (d + 5) 31 [.int v1, .int v2, .int v3, .int (v4 + 1)] (fun T => []) (σ_6.1, upA (upA σ_6.2.1 75 (upd (σ_6.2.1 75) ((21 * v3) + v4).toNatClampNeg r8)) 60 (upd (upd (upd (σ_6.2.1 60) 0 (s8_lesser 99 ((σ_6.2.1 60 0) + v3))) 30 (s8_lesser 99 ((σ_6.2.1 60 30) + 1))) 37 ((σ_6.2.1 60 37) + 1)), σ_6.2.2.1, σ_6.2.2.2) r σ1)))) : Rn8 mX8_layGrowths (d + 5) 31 [.int v1, .int v2, .int v3, .int v4] (fun T => []) σ r σ1 := by
  intro G l T hp hK hT
  refine R_iload dX8_layGrowths_31 rfl ?_
  refine R_bipush (v := 20) dX8_layGrowths_33 (by decide) ?_
  refine R_icmp_gt 113 dX8_layGrowths_35 (by decide) (fun c1 => ?_) (fun c1 => ?_)
  · replace h := h.1 c1
    refine R_aload_n dX8_layGrowths_113 rfl ?_
    refine T8_geta hT dX8_layGrowths_114 fl8_130 ⟨by decide, by decide, by decide⟩ ?_
    refine R_iload_n dX8_layGrowths_117 rfl ?_
    refine R_aload_n dX8_layGrowths_118 rfl ?_
    refine R_iload_n dX8_layGrowths_119 rfl ?_
    refine R_iload_n dX8_layGrowths_120 rfl ?_
    obtain ⟨r4, σ_2, e3, h⟩ := h
    refine T8_call [.int v3, .int v1] hK hT dX8_layGrowths_121 cv8_531 rfl rfl rfl (Nat.le_of_ble_eq_true rfl) e3 ?_
    show RnH [] G l mX8_layGrowths (d + 5) (fun v hp1 => v = r ∧ hp1 = tw T σ1 hp) noX 124 (.ref T :: [.int v1, .int v2, .int v3, .int v4]) [.int r4, .int v3, .ref (a8 T 76)] (tw T σ_2 hp) 0 0
    refine T8_zast (σ9 := (σ_2.1, upA σ_2.2.1 76 (upd (σ_2.2.1 76) v3.toNatClampNeg r4), σ_2.2.2.1, σ_2.2.2.2)) hK hT dX8_layGrowths_124 ⟨by decide, rfl⟩ h.1.2 h.1.1 rfl ?_
    replace h := h.2
    refine R_iload_n dX8_layGrowths_125 rfl ?_
    refine R_aload_n dX8_layGrowths_126 rfl ?_
    refine T8_geta hT dX8_layGrowths_127 fl8_130 ⟨by decide, by decide, by decide⟩ ?_
    refine R_iload_n dX8_layGrowths_130 rfl ?_
    have b5 := h.1
    replace h := h.2
    refine T8_zald (x := (upd (σ_2.2.1 76) v3.toNatClampNeg r4) v3.toNatClampNeg) hT dX8_layGrowths_131 ⟨by decide, rfl⟩ b5 rfl ?_
    refine T8_callS [.int ((upd (σ_2.2.1 76) v3.toNatClampNeg r4) v3.toNatClampNeg)] dX8_layGrowths_132 cs8_310 rfl rfl (Nat.le_of_ble_eq_true rfl) (st8_truth (d + 3) ((upd (σ_2.2.1 76) v3.toNatClampNeg r4) v3.toNatClampNeg)) ?_
    show RnH [] G l mX8_layGrowths (d + 5) (fun v hp1 => v = r ∧ hp1 = tw T σ1 hp) noX 135 (.ref T :: [.int v1, .int v2, .int v3, .int v4]) [.int (s8_truth ((upd (σ_2.2.1 76) v3.toNatClampNeg r4) v3.toNatClampNeg)), .int v2] (tw T (σ_2.1, upA σ_2.2.1 76 (upd (σ_2.2.1 76) v3.toNatClampNeg r4), σ_2.2.2.1, σ_2.2.2.2) hp) 0 0
    refine R_iadd dX8_layGrowths_135 ?_
    refine S_istore_n (ls1 := .ref T :: [.int v1, .int (v2 + (s8_truth ((upd (σ_2.2.1 76) v3.toNatClampNeg r4) v3.toNatClampNeg))), .int v3, .int v4]) dX8_layGrowths_136 (by decide) rfl rfl ?_
    refine S_iinc (v := v3 + 1) (ls1 := .ref T :: [.int v1, .int (v2 + (s8_truth ((upd (σ_2.2.1 76) v3.toNatClampNeg r4) v3.toNatClampNeg))), .int (v3 + 1), .int v4]) dX8_layGrowths_137 rfl rfl (by decide) rfl rfl ?_
    refine R_goto 4 dX8_layGrowths_140 (by decide) ?_
    refine R_drop 4 ?_
    exact h G l T hp hK hT
  · replace h := h.2 c1
    refine R_aload_n dX8_layGrowths_38 rfl ?_
    refine T8_geta hT dX8_layGrowths_39 fl8_127 ⟨by decide, by decide, by decide⟩ ?_
    refine R_bipush (v := 21) dX8_layGrowths_42 (by decide) ?_
    refine R_iload_n dX8_layGrowths_44 rfl ?_
    refine R_imul dX8_layGrowths_45 ?_
    refine R_iload dX8_layGrowths_46 rfl ?_
    refine R_iadd dX8_layGrowths_48 ?_
    refine R_aload_n dX8_layGrowths_49 rfl ?_
    refine R_iconst (v := 0) dX8_layGrowths_50 (by decide) ?_
    refine R_iconst (v := 0) dX8_layGrowths_51 (by decide) ?_
    obtain ⟨r8, σ_6, e7, h⟩ := h
    refine T8_call [.int 0, .int 0] hK hT dX8_layGrowths_52 cv8_424 rfl rfl rfl (Nat.le_of_ble_eq_true rfl) e7 ?_
    show RnH [] G l mX8_layGrowths (d + 5) (fun v hp1 => v = r ∧ hp1 = tw T σ1 hp) noX 55 (.ref T :: [.int v1, .int v2, .int v3, .int v4]) [.int r8, .int ((21 * v3) + v4), .ref (a8 T 75)] (tw T σ_6 hp) 0 0
    refine T8_zast (σ9 := (σ_6.1, upA σ_6.2.1 75 (upd (σ_6.2.1 75) ((21 * v3) + v4).toNatClampNeg r8), σ_6.2.2.1, σ_6.2.2.2)) hK hT dX8_layGrowths_55 ⟨by decide, rfl⟩ h.1.2 h.1.1 rfl ?_
    replace h := h.2
    refine R_aload_n dX8_layGrowths_56 rfl ?_
    refine T8_geta hT dX8_layGrowths_57 fl8_96 ⟨by decide, by decide, by decide⟩ ?_
    refine R_iconst (v := 0) dX8_layGrowths_60 (by decide) ?_
    refine R_bipush (v := 99) dX8_layGrowths_61 (by decide) ?_
    refine R_aload_n dX8_layGrowths_63 rfl ?_
    refine T8_geta hT dX8_layGrowths_64 fl8_96 ⟨by decide, by decide, by decide⟩ ?_
    refine R_iconst (v := 0) dX8_layGrowths_67 (by decide) ?_
    refine T8_iald (x := σ_6.2.1 60 0) hT dX8_layGrowths_68 ⟨by decide, rfl⟩ (by unfold vp_in; decide) rfl ?_
    refine R_iload_n dX8_layGrowths_69 rfl ?_
    refine R_iadd dX8_layGrowths_70 ?_
    refine T8_callS [.int 99, .int ((σ_6.2.1 60 0) + v3)] dX8_layGrowths_71 cs8_431 rfl rfl (Nat.le_of_ble_eq_true rfl) (st8_lesser (d + 3) 99 ((σ_6.2.1 60 0) + v3)) ?_
    show RnH [] G l mX8_layGrowths (d + 5) (fun v hp1 => v = r ∧ hp1 = tw T σ1 hp) noX 74 (.ref T :: [.int v1, .int v2, .int v3, .int v4]) [.int (s8_lesser 99 ((σ_6.2.1 60 0) + v3)), .int 0, .ref (a8 T 60)] (tw T (σ_6.1, upA σ_6.2.1 75 (upd (σ_6.2.1 75) ((21 * v3) + v4).toNatClampNeg r8), σ_6.2.2.1, σ_6.2.2.2) hp) 0 0
    refine T8_iast (σ9 := (σ_6.1, upA (upA σ_6.2.1 75 (upd (σ_6.2.1 75) ((21 * v3) + v4).toNatClampNeg r8)) 60 (upd (σ_6.2.1 60) 0 (s8_lesser 99 ((σ_6.2.1 60 0) + v3))), σ_6.2.2.1, σ_6.2.2.2)) hK hT dX8_layGrowths_74 ⟨by decide, rfl⟩ (by unfold vp_in; decide) rfl ?_
    refine R_aload_n dX8_layGrowths_75 rfl ?_
    refine T8_geta hT dX8_layGrowths_76 fl8_96 ⟨by decide, by decide, by decide⟩ ?_
    refine R_bipush (v := 30) dX8_layGrowths_79 (by decide) ?_
    refine R_bipush (v := 99) dX8_layGrowths_81 (by decide) ?_
    refine R_aload_n dX8_layGrowths_83 rfl ?_
    refine T8_geta hT dX8_layGrowths_84 fl8_96 ⟨by decide, by decide, by decide⟩ ?_
    refine R_bipush (v := 30) dX8_layGrowths_87 (by decide) ?_
    refine T8_iald (x := σ_6.2.1 60 30) hT dX8_layGrowths_89 ⟨by decide, rfl⟩ (by unfold vp_in; decide) rfl ?_
    refine R_iconst (v := 1) dX8_layGrowths_90 (by decide) ?_
    refine R_iadd dX8_layGrowths_91 ?_
    refine T8_callS [.int 99, .int ((σ_6.2.1 60 30) + 1)] dX8_layGrowths_92 cs8_431 rfl rfl (Nat.le_of_ble_eq_true rfl) (st8_lesser (d + 3) 99 ((σ_6.2.1 60 30) + 1)) ?_
    show RnH [] G l mX8_layGrowths (d + 5) (fun v hp1 => v = r ∧ hp1 = tw T σ1 hp) noX 95 (.ref T :: [.int v1, .int v2, .int v3, .int v4]) [.int (s8_lesser 99 ((σ_6.2.1 60 30) + 1)), .int 30, .ref (a8 T 60)] (tw T (σ_6.1, upA (upA σ_6.2.1 75 (upd (σ_6.2.1 75) ((21 * v3) + v4).toNatClampNeg r8)) 60 (upd (σ_6.2.1 60) 0 (s8_lesser 99 ((σ_6.2.1 60 0) + v3))), σ_6.2.2.1, σ_6.2.2.2) hp) 0 0
    refine T8_iast (σ9 := (σ_6.1, upA (upA σ_6.2.1 75 (upd (σ_6.2.1 75) ((21 * v3) + v4).toNatClampNeg r8)) 60 (upd (upd (σ_6.2.1 60) 0 (s8_lesser 99 ((σ_6.2.1 60 0) + v3))) 30 (s8_lesser 99 ((σ_6.2.1 60 30) + 1))), σ_6.2.2.1, σ_6.2.2.2)) hK hT dX8_layGrowths_95 ⟨by decide, rfl⟩ (by unfold vp_in; decide) (up9 σ_6.1 (upA σ_6.2.1 75 (upd (σ_6.2.1 75) ((21 * v3) + v4).toNatClampNeg r8)) 60 (upd (σ_6.2.1 60) 0 (s8_lesser 99 ((σ_6.2.1 60 0) + v3))) (upd (upd (σ_6.2.1 60) 0 (s8_lesser 99 ((σ_6.2.1 60 0) + v3))) 30 (s8_lesser 99 ((σ_6.2.1 60 30) + 1))) σ_6.2.2.1 σ_6.2.2.2) ?_
    refine R_aload_n dX8_layGrowths_96 rfl ?_
    refine T8_geta hT dX8_layGrowths_97 fl8_96 ⟨by decide, by decide, by decide⟩ ?_
    refine R_bipush (v := 37) dX8_layGrowths_100 (by decide) ?_
    refine R_dup2 dX8_layGrowths_102 rfl rfl ?_
    refine T8_iald (x := σ_6.2.1 60 37) hT dX8_layGrowths_103 ⟨by decide, rfl⟩ (by unfold vp_in; decide) rfl ?_
    refine R_iconst (v := 1) dX8_layGrowths_104 (by decide) ?_
    refine R_iadd dX8_layGrowths_105 ?_
    refine T8_iast (σ9 := (σ_6.1, upA (upA σ_6.2.1 75 (upd (σ_6.2.1 75) ((21 * v3) + v4).toNatClampNeg r8)) 60 (upd (upd (upd (σ_6.2.1 60) 0 (s8_lesser 99 ((σ_6.2.1 60 0) + v3))) 30 (s8_lesser 99 ((σ_6.2.1 60 30) + 1))) 37 ((σ_6.2.1 60 37) + 1)), σ_6.2.2.1, σ_6.2.2.2)) hK hT dX8_layGrowths_106 ⟨by decide, rfl⟩ (by unfold vp_in; decide) (up9 σ_6.1 (upA σ_6.2.1 75 (upd (σ_6.2.1 75) ((21 * v3) + v4).toNatClampNeg r8)) 60 (upd (upd (σ_6.2.1 60) 0 (s8_lesser 99 ((σ_6.2.1 60 0) + v3))) 30 (s8_lesser 99 ((σ_6.2.1 60 30) + 1))) (upd (upd (upd (σ_6.2.1 60) 0 (s8_lesser 99 ((σ_6.2.1 60 0) + v3))) 30 (s8_lesser 99 ((σ_6.2.1 60 30) + 1))) 37 ((σ_6.2.1 60 37) + 1)) σ_6.2.2.1 σ_6.2.2.2) ?_
    refine S_iinc (v := v4 + 1) (ls1 := .ref T :: [.int v1, .int v2, .int v3, .int (v4 + 1)]) dX8_layGrowths_107 rfl rfl (by decide) rfl rfl ?_
    refine R_goto 31 dX8_layGrowths_110 (by decide) ?_
    exact h G l T hp hK hT
theorem g8_menFor_0 {d : Nat} {v1 : Int32} {σ σ1 : S8} {r : Option Value} (h : Rn8 mX8_menFor (d + 5) 4 [.int v1, .int 0, .int 0] (fun T => []) σ r σ1) : Rn8 mX8_menFor (d + 5) 0 [.int v1, U_, U_] (fun T => []) σ r σ1 := by
  intro G l T hp hK hT
  refine R_iconst (v := 0) dX8_menFor_0 (by decide) ?_
  refine S_istore_n (ls1 := .ref T :: [.int v1, .int 0, U_]) dX8_menFor_1 (by decide) rfl rfl ?_
  refine R_iconst (v := 0) dX8_menFor_2 (by decide) ?_
  refine S_istore_n (ls1 := .ref T :: [.int v1, .int 0, .int 0]) dX8_menFor_3 (by decide) rfl rfl ?_
  exact h G l T hp hK hT
theorem g8_menFor_4 {d : Nat} {v1 : Int32} {v2 : Int32} {v3 : Int32} {σ σ1 : S8} {r : Option Value} (h : (((σ.1 48) ≤ v3) → r = some (.int v2) ∧ σ1 = σ) ∧ ((¬ (σ.1 48) ≤ v3) → ∃ (r4 : Int32) (σ_2 : S8), Tw8 mX8_fits (d + 4) [.int v3, .int v1] σ (some (.int r4)) σ_2 ∧ (Rn8 mX8_menFor (d + 5) 4 [.int v1, .int (v2 + (s8_truth r4)), .int (v3 + 1)] (fun T => []) σ_2 r σ1))) : Rn8 mX8_menFor (d + 5) 4 [.int v1, .int v2, .int v3] (fun T => []) σ r σ1 := by
  intro G l T hp hK hT
  refine R_iload_n dX8_menFor_4 rfl ?_
  refine R_aload_n dX8_menFor_5 rfl ?_
  refine T8_get (x := σ.1 48) hT dX8_menFor_6 fl8_387 ⟨by decide, rfl⟩ rfl ?_
  refine R_icmp_ge 30 dX8_menFor_9 (by decide) (fun c1 => ?_) (fun c1 => ?_)
  · replace h := h.1 c1
    refine R_iload_n dX8_menFor_30 rfl ?_
    exact R_iret dX8_menFor_31 rfl rfl ⟨h.1.symm, by rw [h.2]⟩
  · replace h := h.2 c1
    refine R_iload_n dX8_menFor_12 rfl ?_
    refine R_aload_n dX8_menFor_13 rfl ?_
    refine R_iload_n dX8_menFor_14 rfl ?_
    refine R_iload_n dX8_menFor_15 rfl ?_
    obtain ⟨r4, σ_2, e3, h⟩ := h
    refine T8_call [.int v3, .int v1] hK hT dX8_menFor_16 cv8_424 rfl rfl rfl (Nat.le_of_ble_eq_true rfl) e3 ?_
    show RnH [] G l mX8_menFor (d + 5) (fun v hp1 => v = r ∧ hp1 = tw T σ1 hp) noX 19 (.ref T :: [.int v1, .int v2, .int v3]) [.int r4, .int v2] (tw T σ_2 hp) 0 0
    refine T8_callS [.int r4] dX8_menFor_19 cs8_310 rfl rfl (Nat.le_of_ble_eq_true rfl) (st8_truth (d + 3) r4) ?_
    show RnH [] G l mX8_menFor (d + 5) (fun v hp1 => v = r ∧ hp1 = tw T σ1 hp) noX 22 (.ref T :: [.int v1, .int v2, .int v3]) [.int (s8_truth r4), .int v2] (tw T σ_2 hp) 0 0
    refine R_iadd dX8_menFor_22 ?_
    refine S_istore_n (ls1 := .ref T :: [.int v1, .int (v2 + (s8_truth r4)), .int v3]) dX8_menFor_23 (by decide) rfl rfl ?_
    refine S_iinc (v := v3 + 1) (ls1 := .ref T :: [.int v1, .int (v2 + (s8_truth r4)), .int (v3 + 1)]) dX8_menFor_24 rfl rfl (by decide) rfl rfl ?_
    refine R_goto 4 dX8_menFor_27 (by decide) ?_
    exact h G l T hp hK hT
theorem g8_option_0 {d : Nat} {v1 : Int64} {v3 : Int32} {σ σ1 : S8} {r : Option Value} (h : ((¬ (σ.1 2) = 0) → r = some (.int 0) ∧ σ1 = σ) ∧ (((σ.1 2) = 0) → ∃ (r4 : Int32) (σ_2 : S8), Tw8 mX8_isWord (d + 4) [.long v1] σ (some (.int r4)) σ_2 ∧ (((r4 = 0) → r = some (.int 0) ∧ σ1 = σ_2) ∧ ((¬ r4 = 0) → ∃ (r8 : Int32) (σ_6 : S8), Tw8 mX8_told (d + 4) [.long v1, .int v3] σ_2 (some (.int r8)) σ_6 ∧ (r = some (.int r8) ∧ σ1 = σ_6))))) : Rn8 mX8_option (d + 5) 0 [.long v1, U_, .int v3] (fun T => []) σ r σ1 := by
  intro G l T hp hK hT
  refine R_aload_n dX8_option_0 rfl ?_
  refine T8_get (x := σ.1 2) hT dX8_option_1 fl8_179 ⟨by decide, rfl⟩ rfl ?_
  refine R_if_ne 24 dX8_option_4 (by decide) (fun c1 => ?_) (fun c1 => ?_)
  · replace h := h.1 c1
    refine R_iconst (v := 0) dX8_option_24 (by decide) ?_
    exact R_iret dX8_option_25 rfl rfl ⟨h.1.symm, by rw [h.2]⟩
  · replace h := h.2 c1
    refine R_aload_n dX8_option_7 rfl ?_
    refine R_lload_n dX8_option_8 rfl ?_
    obtain ⟨r4, σ_2, e3, h⟩ := h
    refine T8_call [.long v1] hK hT dX8_option_9 cv8_228 rfl rfl rfl (Nat.le_of_ble_eq_true rfl) e3 ?_
    show RnH [] G l mX8_option (d + 5) (fun v hp1 => v = r ∧ hp1 = tw T σ1 hp) noX 12 (.ref T :: [.long v1, U_, .int v3]) [.int r4] (tw T σ_2 hp) 0 0
    refine R_if_eq 24 dX8_option_12 (by decide) (fun c5 => ?_) (fun c5 => ?_)
    · replace h := h.1 c5
      refine R_iconst (v := 0) dX8_option_24 (by decide) ?_
      exact R_iret dX8_option_25 rfl rfl ⟨h.1.symm, by rw [h.2]⟩
    · replace h := h.2 c5
      refine R_aload_n dX8_option_15 rfl ?_
      refine R_lload_n dX8_option_16 rfl ?_
      refine R_iload_n dX8_option_17 rfl ?_
      obtain ⟨r8, σ_6, e7, h⟩ := h
      refine T8_call [.long v1, .int v3] hK hT dX8_option_18 cv8_246 rfl rfl rfl (Nat.le_of_ble_eq_true rfl) e7 ?_
      show RnH [] G l mX8_option (d + 5) (fun v hp1 => v = r ∧ hp1 = tw T σ1 hp) noX 21 (.ref T :: [.long v1, U_, .int v3]) [.int r8] (tw T σ_6 hp) 0 0
      refine R_goto 25 dX8_option_21 (by decide) ?_
      exact R_iret dX8_option_25 rfl rfl ⟨h.1.symm, by rw [h.2]⟩
