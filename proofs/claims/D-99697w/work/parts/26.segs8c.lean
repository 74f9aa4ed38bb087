/-! printed: segments of the twin's methods -/
set_option maxRecDepth 100000
theorem g8_reach_0 {d : Nat} {v1 : Int32} {v2 : Int32} {σ σ1 : S8} {r : Option Value} (h : ∃ σ_1 : S8, Tw8 mX8_layIlls (d + 4) [] (upd σ.1 67 0, σ.2.1, σ.2.2.1, σ.2.2.2) none σ_1 ∧ (∃ (r5 : Int32) (σ_3 : S8), Tw8 mX8_freeCoats (d + 4) [] σ_1 (some (.int r5)) σ_3 ∧ (∃ (r8 : Int32) (σ_6 : S8), Tw8 mX8_isMan (d + 4) [.int v1] σ_3 (some (.int r8)) σ_6 ∧ (((r8 = 0) → r = some (.int (-1)) ∧ σ1 = σ_6) ∧ ((¬ r8 = 0) → ∃ (r12 : Int32) (σ_10 : S8), Tw8 mX8_isMan (d + 4) [.int v2] σ_6 (some (.int r12)) σ_10 ∧ (((r12 = 0) → r = some (.int (-1)) ∧ σ1 = σ_10) ∧ ((¬ r12 = 0) → ((v1 = v2) → r = some (.int (-1)) ∧ σ1 = σ_10) ∧ ((¬ v1 = v2) → ((¬ r5 = 0) → Rn8 mX8_reach (d + 5) 47 [.int v1, .int v2, .int r5, .int 0, .int 0, U_] (fun T => []) σ_10 r σ1) ∧ ((r5 = 0) → r = some (.int (-1)) ∧ σ1 = σ_10))))))))) : Rn8 mX8_reach (d + 5) 0 [.int v1, .int v2, U_, U_, U_, U_] (fun T => []) σ r σ1 := by
  intro G l T hp hK hT
  refine R_aload_n dX8_reach_0 rfl ?_
  refine R_iconst (v := 0) dX8_reach_1 (by decide) ?_
  refine T8_put (σ9 := (upd σ.1 67 0, σ.2.1, σ.2.2.1, σ.2.2.2)) hK hT dX8_reach_2 fl8_414 ft8_67 rfl rfl ⟨by decide, rfl⟩ rfl ?_
  refine R_aload_n dX8_reach_5 rfl ?_
  obtain ⟨σ_1, e2, h⟩ := h
  refine T8_call [] hK hT dX8_reach_6 cv8_470 rfl rfl rfl (Nat.le_of_ble_eq_true rfl) e2 ?_
  show RnH [] G l mX8_reach (d + 5) (fun v hp1 => v = r ∧ hp1 = tw T σ1 hp) noX 9 (.ref T :: [.int v1, .int v2, U_, U_, U_, U_]) [] (tw T σ_1 hp) 0 0
  refine R_aload_n dX8_reach_9 rfl ?_
  obtain ⟨r5, σ_3, e4, h⟩ := h
  refine T8_call [] hK hT dX8_reach_10 cv8_511 rfl rfl rfl (Nat.le_of_ble_eq_true rfl) e4 ?_
  show RnH [] G l mX8_reach (d + 5) (fun v hp1 => v = r ∧ hp1 = tw T σ1 hp) noX 13 (.ref T :: [.int v1, .int v2, U_, U_, U_, U_]) [.int r5] (tw T σ_3 hp) 0 0
  refine S_istore_n (ls1 := .ref T :: [.int v1, .int v2, .int r5, U_, U_, U_]) dX8_reach_13 (by decide) rfl rfl ?_
  refine R_aload_n dX8_reach_14 rfl ?_
  refine R_iload_n dX8_reach_15 rfl ?_
  obtain ⟨r8, σ_6, e7, h⟩ := h
  refine T8_call [.int v1] hK hT dX8_reach_16 cv8_446 rfl rfl rfl (Nat.le_of_ble_eq_true rfl) e7 ?_
  show RnH [] G l mX8_reach (d + 5) (fun v hp1 => v = r ∧ hp1 = tw T σ1 hp) noX 19 (.ref T :: [.int v1, .int v2, .int r5, U_, U_, U_]) [.int r8] (tw T σ_6 hp) 0 0
  refine R_if_eq 39 dX8_reach_19 (by decide) (fun c9 => ?_) (fun c9 => ?_)
  · replace h := h.1 c9
    refine R_iconst (v := (-1)) dX8_reach_39 (by decide) ?_
    exact R_iret dX8_reach_40 rfl rfl ⟨h.1.symm, by rw [h.2]⟩
  · replace h := h.2 c9
    refine R_aload_n dX8_reach_22 rfl ?_
    refine R_iload_n dX8_reach_23 rfl ?_
    obtain ⟨r12, σ_10, e11, h⟩ := h
    refine T8_call [.int v2] hK hT dX8_reach_24 cv8_446 rfl rfl rfl (Nat.le_of_ble_eq_true rfl) e11 ?_
    show RnH [] G l mX8_reach (d + 5) (fun v hp1 => v = r ∧ hp1 = tw T σ1 hp) noX 27 (.ref T :: [.int v1, .int v2, .int r5, U_, U_, U_]) [.int r12] (tw T σ_10 hp) 0 0
    refine R_if_eq 39 dX8_reach_27 (by decide) (fun c13 => ?_) (fun c13 => ?_)
    · replace h := h.1 c13
      refine R_iconst (v := (-1)) dX8_reach_39 (by decide) ?_
      exact R_iret dX8_reach_40 rfl rfl ⟨h.1.symm, by rw [h.2]⟩
    · replace h := h.2 c13
      refine R_iload_n dX8_reach_30 rfl ?_
      refine R_iload_n dX8_reach_31 rfl ?_
      refine R_icmp_eq 39 dX8_reach_32 (by decide) (fun c14 => ?_) (fun c14 => ?_)
      · replace h := h.1 c14
        refine R_iconst (v := (-1)) dX8_reach_39 (by decide) ?_
        exact R_iret dX8_reach_40 rfl rfl ⟨h.1.symm, by rw [h.2]⟩
      · replace h := h.2 c14
        refine R_iload_n dX8_reach_35 rfl ?_
        refine R_if_ne 41 dX8_reach_36 (by decide) (fun c15 => ?_) (fun c15 => ?_)
        · replace h := h.1 c15
          refine R_iconst (v := 0) dX8_reach_41 (by decide) ?_
          refine S_istore (ls1 := .ref T :: [.int v1, .int v2, .int r5, .int 0, U_, U_]) dX8_reach_42 (by decide) rfl rfl ?_
          refine R_iconst (v := 0) dX8_reach_44 (by decide) ?_
          refine S_istore (ls1 := .ref T :: [.int v1, .int v2, .int r5, .int 0, .int 0, U_]) dX8_reach_45 (by decide) rfl rfl ?_
          exact h G l T hp hK hT
        · replace h := h.2 c15
          refine R_iconst (v := (-1)) dX8_reach_39 (by decide) ?_
          exact R_iret dX8_reach_40 rfl rfl ⟨h.1.symm, by rw [h.2]⟩
theorem g8_reach_47 {d : Nat} {v1 : Int32} {v2 : Int32} {v3 : Int32} {v4 : Int32} {v5 : Int32} {σ σ1 : S8} {r : Option Value} (h : (((σ.1 49) ≤ v5) → r = some (.int v4) ∧ σ1 = σ) ∧ ((¬ (σ.1 49) ≤ v5) → Rn8 mX8_reach (d + 5) 59 [.int v1, .int v2, .int v3, .int v4, .int v5, .int 0] (fun T => []) σ r σ1)) : Rn8 mX8_reach (d + 5) 47 [.int v1, .int v2, .int v3, .int v4, .int v5, U_] (fun T => []) σ r σ1 := by
  intro G l T hp hK hT
  refine R_iload dX8_reach_47 rfl ?_
  refine R_aload_n dX8_reach_49 rfl ?_
  refine T8_get (x := σ.1 49) hT dX8_reach_50 fl8_390 ⟨by decide, rfl⟩ rfl ?_
  refine R_icmp_ge 144 dX8_reach_53 (by decide) (fun c1 => ?_) (fun c1 => ?_)
  · replace h := h.1 c1
    refine R_iload dX8_reach_144 rfl ?_
    exact R_iret dX8_reach_146 rfl rfl ⟨h.1.symm, by rw [h.2]⟩
  · replace h := h.2 c1
    refine R_iconst (v := 0) dX8_reach_56 (by decide) ?_
    refine S_istore (ls1 := .ref T :: [.int v1, .int v2, .int v3, .int v4, .int v5, .int 0]) dX8_reach_57 (by decide) rfl rfl ?_
    exact h G l T hp hK hT
theorem g8_reach_59 {d : Nat} {v1 : Int32} {v2 : Int32} {v3 : Int32} {v4 : Int32} {v5 : Int32} {v6 : Int32} {σ σ1 : S8} {r : Option Value} (h : (((σ.1 49) ≤ v6) → Rn8 mX8_reach (d + 5) 47 [.int v1, .int v2, .int v3, .int v4, .int (v5 + 1), U_] (fun T => []) σ r σ1) ∧ ((¬ (σ.1 49) ≤ v6) → ((((v3 >>> (v5 &&& 31)) &&& 1) = 0) → Rn8 mX8_reach (d + 5) 59 [.int v1, .int v2, .int v3, .int v4, .int v5, .int (v6 + 1)] (fun T => []) σ r σ1) ∧ ((¬ ((v3 >>> (v5 &&& 31)) &&& 1) = 0) → ((((v3 >>> (v6 &&& 31)) &&& 1) = 0) → Rn8 mX8_reach (d + 5) 59 [.int v1, .int v2, .int v3, .int v4, .int v5, .int (v6 + 1)] (fun T => []) σ r σ1) ∧ ((¬ ((v3 >>> (v6 &&& 31)) &&& 1) = 0) → ∃ (r6 : Int32) (σ_4 : S8), Tw8 mX8_isRest (d + 4) [.int v1, .int v2, .int v5, .int v6, .int v3] σ (some (.int r6)) σ_4 ∧ (((¬ r6 = 0) → ((¬ v4 = 0) → Rn8 mX8_reach (d + 5) 59 [.int v1, .int v2, .int v3, .int (v4 + 1), .int v5, .int (v6 + 1)] (fun T => []) σ_4 r σ1) ∧ ((v4 = 0) → Rn8 mX8_reach (d + 5) 59 [.int v1, .int v2, .int v3, .int (v4 + 1), .int v5, .int (v6 + 1)] (fun T => []) (upd σ_4.1 67 2, upA σ_4.2.1 64 (upd (upd (σ_4.2.1 64) 0 v5) 1 v6), σ_4.2.2.1, σ_4.2.2.2) r σ1)) ∧ ((r6 = 0) → Rn8 mX8_reach (d + 5) 59 [.int v1, .int v2, .int v3, .int v4, .int v5, .int (v6 + 1)] (fun T => []) σ_4 r σ1)))))) : Rn8 mX8_reach (d + 5) 59 [.int v1, .int v2, .int v3, .int v4, .int v5, .int v6] (fun T => []) σ r σ1 := by
  intro G l T hp hK hT
  refine R_iload dX8_reach_59 rfl ?_
  refine R_aload_n dX8_reach_61 rfl ?_
  refine T8_get (x := σ.1 49) hT dX8_reach_62 fl8_390 ⟨by decide, rfl⟩ rfl ?_
  refine R_icmp_ge 138 dX8_reach_65 (by decide) (fun c1 => ?_) (fun c1 => ?_)
  · replace h := h.1 c1
    refine S_iinc (v := v5 + 1) (ls1 := .ref T :: [.int v1, .int v2, .int v3, .int v4, .int (v5 + 1), .int v6]) dX8_reach_138 rfl rfl (by decide) rfl rfl ?_
    refine R_goto 47 dX8_reach_141 (by decide) ?_
    refine R_drop 6 ?_
    exact h G l T hp hK hT
  · replace h := h.2 c1
    refine R_iload_n dX8_reach_68 rfl ?_
    refine R_iload dX8_reach_69 rfl ?_
    refine R_ishr dX8_reach_71 ?_
    refine R_iconst (v := 1) dX8_reach_72 (by decide) ?_
    refine R_iand dX8_reach_73 ?_
    refine R_if_eq 132 dX8_reach_74 (by decide) (fun c2 => ?_) (fun c2 => ?_)
    · replace h := h.1 c2
      refine S_iinc (v := v6 + 1) (ls1 := .ref T :: [.int v1, .int v2, .int v3, .int v4, .int v5, .int (v6 + 1)]) dX8_reach_132 rfl rfl (by decide) rfl rfl ?_
      refine R_goto 59 dX8_reach_135 (by decide) ?_
      exact h G l T hp hK hT
    · replace h := h.2 c2
      refine R_iload_n dX8_reach_77 rfl ?_
      refine R_iload dX8_reach_78 rfl ?_
      refine R_ishr dX8_reach_80 ?_
      refine R_iconst (v := 1) dX8_reach_81 (by decide) ?_
      refine R_iand dX8_reach_82 ?_
      refine R_if_eq 132 dX8_reach_83 (by decide) (fun c3 => ?_) (fun c3 => ?_)
      · replace h := h.1 c3
        refine S_iinc (v := v6 + 1) (ls1 := .ref T :: [.int v1, .int v2, .int v3, .int v4, .int v5, .int (v6 + 1)]) dX8_reach_132 rfl rfl (by decide) rfl rfl ?_
        refine R_goto 59 dX8_reach_135 (by decide) ?_
        exact h G l T hp hK hT
      · replace h := h.2 c3
        refine R_aload_n dX8_reach_86 rfl ?_
        refine R_iload_n dX8_reach_87 rfl ?_
        refine R_iload_n dX8_reach_88 rfl ?_
        refine R_iload dX8_reach_89 rfl ?_
        refine R_iload dX8_reach_91 rfl ?_
        refine R_iload_n dX8_reach_93 rfl ?_
        obtain ⟨r6, σ_4, e5, h⟩ := h
        refine T8_call [.int v1, .int v2, .int v5, .int v6, .int v3] hK hT dX8_reach_94 cv8_514 rfl rfl rfl (Nat.le_of_ble_eq_true rfl) e5 ?_
        show RnH [] G l mX8_reach (d + 5) (fun v hp1 => v = r ∧ hp1 = tw T σ1 hp) noX 97 (.ref T :: [.int v1, .int v2, .int v3, .int v4, .int v5, .int v6]) [.int r6] (tw T σ_4 hp) 0 0
        refine R_if_ne 103 dX8_reach_97 (by decide) (fun c7 => ?_) (fun c7 => ?_)
        · replace h := h.1 c7
          refine R_iload dX8_reach_103 rfl ?_
          refine R_if_ne 129 dX8_reach_105 (by decide) (fun c8 => ?_) (fun c8 => ?_)
          · replace h := h.1 c8
            refine S_iinc (v := v4 + 1) (ls1 := .ref T :: [.int v1, .int v2, .int v3, .int (v4 + 1), .int v5, .int v6]) dX8_reach_129 rfl rfl (by decide) rfl rfl ?_
            refine S_iinc (v := v6 + 1) (ls1 := .ref T :: [.int v1, .int v2, .int v3, .int (v4 + 1), .int v5, .int (v6 + 1)]) dX8_reach_132 rfl rfl (by decide) rfl rfl ?_
            refine R_goto 59 dX8_reach_135 (by decide) ?_
            exact h G l T hp hK hT
          · replace h := h.2 c8
            refine R_aload_n dX8_reach_108 rfl ?_
            refine T8_geta hT dX8_reach_109 fl8_102 ⟨by decide, by decide, by decide⟩ ?_
            refine R_iconst (v := 0) dX8_reach_112 (by decide) ?_
            refine R_iload dX8_reach_113 rfl ?_
            refine T8_iast (σ9 := (σ_4.1, upA σ_4.2.1 64 (upd (σ_4.2.1 64) 0 v5), σ_4.2.2.1, σ_4.2.2.2)) hK hT dX8_reach_115 ⟨by decide, rfl⟩ (by unfold vp_in; decide) rfl ?_
            refine R_aload_n dX8_reach_116 rfl ?_
            refine T8_geta hT dX8_reach_117 fl8_102 ⟨by decide, by decide, by decide⟩ ?_
            refine R_iconst (v := 1) dX8_reach_120 (by decide) ?_
            refine R_iload dX8_reach_121 rfl ?_
            refine T8_iast (σ9 := (σ_4.1, upA σ_4.2.1 64 (upd (upd (σ_4.2.1 64) 0 v5) 1 v6), σ_4.2.2.1, σ_4.2.2.2)) hK hT dX8_reach_123 ⟨by decide, rfl⟩ (by unfold vp_in; decide) (up9 σ_4.1 σ_4.2.1 64 (upd (σ_4.2.1 64) 0 v5) (upd (upd (σ_4.2.1 64) 0 v5) 1 v6) σ_4.2.2.1 σ_4.2.2.2) ?_
            refine R_aload_n dX8_reach_124 rfl ?_
            refine R_iconst (v := 2) dX8_reach_125 (by decide) ?_
            refine T8_put (σ9 := (upd σ_4.1 67 2, upA σ_4.2.1 64 (upd (upd (σ_4.2.1 64) 0 v5) 1 v6), σ_4.2.2.1, σ_4.2.2.2)) hK hT dX8_reach_126 fl8_414 ft8_67 rfl rfl ⟨by decide, rfl⟩ rfl ?_
            refine S_iinc (v := v4 + 1) (ls1 := .ref T :: [.int v1, .int v2, .int v3, .int (v4 + 1), .int v5, .int v6]) dX8_reach_129 rfl rfl (by decide) rfl rfl ?_
            refine S_iinc (v := v6 + 1) (ls1 := .ref T :: [.int v1, .int v2, .int v3, .int (v4 + 1), .int v5, .int (v6 + 1)]) dX8_reach_132 rfl rfl (by decide) rfl rfl ?_
            refine R_goto 59 dX8_reach_135 (by decide) ?_
            exact h G l T hp hK hT
        · replace h := h.2 c7
          refine R_goto 132 dX8_reach_100 (by decide) ?_
          refine S_iinc (v := v6 + 1) (ls1 := .ref T :: [.int v1, .int v2, .int v3, .int v4, .int v5, .int (v6 + 1)]) dX8_reach_132 rfl rfl (by decide) rfl rfl ?_
          refine R_goto 59 dX8_reach_135 (by decide) ?_
          exact h G l T hp hK hT
theorem g8_sewing_0 {d : Nat} {v1 : Int32} {v2 : Int32} {v3 : Int32} {σ σ1 : S8} {r : Option Value} (h : ∃ (r3 : Int32) (σ_1 : S8), Tw8 mX8_isCoat (d + 4) [.int v1] σ (some (.int r3)) σ_1 ∧ (((r3 = 0) → r = some (.int (-100)) ∧ σ1 = σ_1) ∧ ((¬ r3 = 0) → ∃ (r7 : Int32) (σ_5 : S8), Tw8 mX8_isMan (d + 4) [.int v2] σ_1 (some (.int r7)) σ_5 ∧ (((r7 = 0) → r = some (.int (-100)) ∧ σ1 = σ_5) ∧ ((¬ r7 = 0) → ((¬ (s8_isIn v3 0 2) = 0) → vp_in (12 + v1) 39 ∧ (vp_in (18 + v1) 39 ∧ (vp_in (24 + v1) 39 ∧ (Rn8 mX8_sewing (d + 5) 94 [.int v1, .int v2, .int v3, .int (s8_lesser 20 (σ_5.2.1 59 (12 + v1).toNatClampNeg)), .int (s8_lesser 20 (σ_5.2.1 59 (18 + v1).toNatClampNeg)), .int (s8_lesser (s8_lesser 20 (σ_5.2.1 59 (24 + v1).toNatClampNeg)) (99 - (σ_5.2.1 59 (18 + v1).toNatClampNeg))), .int 0, U_, U_] (fun T => []) σ_5 r σ1)))) ∧ (((s8_isIn v3 0 2) = 0) → r = some (.int (-100)) ∧ σ1 = σ_5)))))) : Rn8 mX8_sewing (d + 5) 0 [.int v1, .int v2, .int v3, U_, U_, U_, U_, U_, U_] (fun T => []) σ r σ1 := by
  intro G l T hp hK hT
  refine R_aload_n dX8_sewing_0 rfl ?_
  refine R_iload_n dX8_sewing_1 rfl ?_
  obtain ⟨r3, σ_1, e2, h⟩ := h
  refine T8_call [.int v1] hK hT dX8_sewing_2 cv8_455 rfl rfl rfl (Nat.le_of_ble_eq_true rfl) e2 ?_
  show RnH [] G l mX8_sewing (d + 5) (fun v hp1 => v = r ∧ hp1 = tw T σ1 hp) noX 5 (.ref T :: [.int v1, .int v2, .int v3, U_, U_, U_, U_, U_, U_]) [.int r3] (tw T σ_1 hp) 0 0
  refine R_if_eq 25 dX8_sewing_5 (by decide) (fun c4 => ?_) (fun c4 => ?_)
  · replace h := h.1 c4
    refine R_bipush (v := (-100)) dX8_sewing_25 (by decide) ?_
    exact R_iret dX8_sewing_27 rfl rfl ⟨h.1.symm, by rw [h.2]⟩
  · replace h := h.2 c4
    refine R_aload_n dX8_sewing_8 rfl ?_
    refine R_iload_n dX8_sewing_9 rfl ?_
    obtain ⟨r7, σ_5, e6, h⟩ := h
    refine T8_call [.int v2] hK hT dX8_sewing_10 cv8_446 rfl rfl rfl (Nat.le_of_ble_eq_true rfl) e6 ?_
    show RnH [] G l mX8_sewing (d + 5) (fun v hp1 => v = r ∧ hp1 = tw T σ1 hp) noX 13 (.ref T :: [.int v1, .int v2, .int v3, U_, U_, U_, U_, U_, U_]) [.int r7] (tw T σ_5 hp) 0 0
    refine R_if_eq 25 dX8_sewing_13 (by decide) (fun c8 => ?_) (fun c8 => ?_)
    · replace h := h.1 c8
      refine R_bipush (v := (-100)) dX8_sewing_25 (by decide) ?_
      exact R_iret dX8_sewing_27 rfl rfl ⟨h.1.symm, by rw [h.2]⟩
    · replace h := h.2 c8
      refine R_iload_n dX8_sewing_16 rfl ?_
      refine R_iconst (v := 0) dX8_sewing_17 (by decide) ?_
      refine R_iconst (v := 2) dX8_sewing_18 (by decide) ?_
      refine T8_callS [.int v3, .int 0, .int 2] dX8_sewing_19 cs8_417 rfl rfl (Nat.le_of_ble_eq_true rfl) (st8_isIn (d + 3) v3 0 2) ?_
      show RnH [] G l mX8_sewing (d + 5) (fun v hp1 => v = r ∧ hp1 = tw T σ1 hp) noX 22 (.ref T :: [.int v1, .int v2, .int v3, U_, U_, U_, U_, U_, U_]) [.int (s8_isIn v3 0 2)] (tw T σ_5 hp) 0 0
      refine R_if_ne 28 dX8_sewing_22 (by decide) (fun c9 => ?_) (fun c9 => ?_)
      · replace h := h.1 c9
        refine R_bipush (v := 20) dX8_sewing_28 (by decide) ?_
        refine R_aload_n dX8_sewing_30 rfl ?_
        refine T8_geta hT dX8_sewing_31 fl8_93 ⟨by decide, by decide, by decide⟩ ?_
        refine R_bipush (v := 12) dX8_sewing_34 (by decide) ?_
        refine R_iload_n dX8_sewing_36 rfl ?_
        refine R_iadd dX8_sewing_37 ?_
        have b10 := h.1
        replace h := h.2
        refine T8_iald (x := σ_5.2.1 59 (12 + v1).toNatClampNeg) hT dX8_sewing_38 ⟨by decide, rfl⟩ b10 rfl ?_
        refine T8_callS [.int 20, .int (σ_5.2.1 59 (12 + v1).toNatClampNeg)] dX8_sewing_39 cs8_431 rfl rfl (Nat.le_of_ble_eq_true rfl) (st8_lesser (d + 3) 20 (σ_5.2.1 59 (12 + v1).toNatClampNeg)) ?_
        show RnH [] G l mX8_sewing (d + 5) (fun v hp1 => v = r ∧ hp1 = tw T σ1 hp) noX 42 (.ref T :: [.int v1, .int v2, .int v3, U_, U_, U_, U_, U_, U_]) [.int (s8_lesser 20 (σ_5.2.1 59 (12 + v1).toNatClampNeg))] (tw T σ_5 hp) 0 0
        refine S_istore (ls1 := .ref T :: [.int v1, .int v2, .int v3, .int (s8_lesser 20 (σ_5.2.1 59 (12 + v1).toNatClampNeg)), U_, U_, U_, U_, U_]) dX8_sewing_42 (by decide) rfl rfl ?_
        refine R_bipush (v := 20) dX8_sewing_44 (by decide) ?_
        refine R_aload_n dX8_sewing_46 rfl ?_
        refine T8_geta hT dX8_sewing_47 fl8_93 ⟨by decide, by decide, by decide⟩ ?_
        refine R_bipush (v := 18) dX8_sewing_50 (by decide) ?_
        refine R_iload_n dX8_sewing_52 rfl ?_
        refine R_iadd dX8_sewing_53 ?_
        have b11 := h.1
        replace h := h.2
        refine T8_iald (x := σ_5.2.1 59 (18 + v1).toNatClampNeg) hT dX8_sewing_54 ⟨by decide, rfl⟩ b11 rfl ?_
        refine T8_callS [.int 20, .int (σ_5.2.1 59 (18 + v1).toNatClampNeg)] dX8_sewing_55 cs8_431 rfl rfl (Nat.le_of_ble_eq_true rfl) (st8_lesser (d + 3) 20 (σ_5.2.1 59 (18 + v1).toNatClampNeg)) ?_
        show RnH [] G l mX8_sewing (d + 5) (fun v hp1 => v = r ∧ hp1 = tw T σ1 hp) noX 58 (.ref T :: [.int v1, .int v2, .int v3, .int (s8_lesser 20 (σ_5.2.1 59 (12 + v1).toNatClampNeg)), U_, U_, U_, U_, U_]) [.int (s8_lesser 20 (σ_5.2.1 59 (18 + v1).toNatClampNeg))] (tw T σ_5 hp) 0 0
        refine S_istore (ls1 := .ref T :: [.int v1, .int v2, .int v3, .int (s8_lesser 20 (σ_5.2.1 59 (12 + v1).toNatClampNeg)), .int (s8_lesser 20 (σ_5.2.1 59 (18 + v1).toNatClampNeg)), U_, U_, U_, U_]) dX8_sewing_58 (by decide) rfl rfl ?_
        refine R_bipush (v := 20) dX8_sewing_60 (by decide) ?_
        refine R_aload_n dX8_sewing_62 rfl ?_
        refine T8_geta hT dX8_sewing_63 fl8_93 ⟨by decide, by decide, by decide⟩ ?_
        refine R_bipush (v := 24) dX8_sewing_66 (by decide) ?_
        refine R_iload_n dX8_sewing_68 rfl ?_
        refine R_iadd dX8_sewing_69 ?_
        have b12 := h.1
        replace h := h.2
        refine T8_iald (x := σ_5.2.1 59 (24 + v1).toNatClampNeg) hT dX8_sewing_70 ⟨by decide, rfl⟩ b12 rfl ?_
        refine T8_callS [.int 20, .int (σ_5.2.1 59 (24 + v1).toNatClampNeg)] dX8_sewing_71 cs8_431 rfl rfl (Nat.le_of_ble_eq_true rfl) (st8_lesser (d + 3) 20 (σ_5.2.1 59 (24 + v1).toNatClampNeg)) ?_
        show RnH [] G l mX8_sewing (d + 5) (fun v hp1 => v = r ∧ hp1 = tw T σ1 hp) noX 74 (.ref T :: [.int v1, .int v2, .int v3, .int (s8_lesser 20 (σ_5.2.1 59 (12 + v1).toNatClampNeg)), .int (s8_lesser 20 (σ_5.2.1 59 (18 + v1).toNatClampNeg)), U_, U_, U_, U_]) [.int (s8_lesser 20 (σ_5.2.1 59 (24 + v1).toNatClampNeg))] (tw T σ_5 hp) 0 0
        refine R_bipush (v := 99) dX8_sewing_74 (by decide) ?_
        refine R_aload_n dX8_sewing_76 rfl ?_
        refine T8_geta hT dX8_sewing_77 fl8_93 ⟨by decide, by decide, by decide⟩ ?_
        refine R_bipush (v := 18) dX8_sewing_80 (by decide) ?_
        refine R_iload_n dX8_sewing_82 rfl ?_
        refine R_iadd dX8_sewing_83 ?_
        refine T8_iald (x := σ_5.2.1 59 (18 + v1).toNatClampNeg) hT dX8_sewing_84 ⟨by decide, rfl⟩ b11 rfl ?_
        refine R_isub dX8_sewing_85 ?_
        refine T8_callS [.int (s8_lesser 20 (σ_5.2.1 59 (24 + v1).toNatClampNeg)), .int (99 - (σ_5.2.1 59 (18 + v1).toNatClampNeg))] dX8_sewing_86 cs8_431 rfl rfl (Nat.le_of_ble_eq_true rfl) (st8_lesser (d + 3) (s8_lesser 20 (σ_5.2.1 59 (24 + v1).toNatClampNeg)) (99 - (σ_5.2.1 59 (18 + v1).toNatClampNeg))) ?_
        show RnH [] G l mX8_sewing (d + 5) (fun v hp1 => v = r ∧ hp1 = tw T σ1 hp) noX 89 (.ref T :: [.int v1, .int v2, .int v3, .int (s8_lesser 20 (σ_5.2.1 59 (12 + v1).toNatClampNeg)), .int (s8_lesser 20 (σ_5.2.1 59 (18 + v1).toNatClampNeg)), U_, U_, U_, U_]) [.int (s8_lesser (s8_lesser 20 (σ_5.2.1 59 (24 + v1).toNatClampNeg)) (99 - (σ_5.2.1 59 (18 + v1).toNatClampNeg)))] (tw T σ_5 hp) 0 0
        refine S_istore (ls1 := .ref T :: [.int v1, .int v2, .int v3, .int (s8_lesser 20 (σ_5.2.1 59 (12 + v1).toNatClampNeg)), .int (s8_lesser 20 (σ_5.2.1 59 (18 + v1).toNatClampNeg)), .int (s8_lesser (s8_lesser 20 (σ_5.2.1 59 (24 + v1).toNatClampNeg)) (99 - (σ_5.2.1 59 (18 + v1).toNatClampNeg))), U_, U_, U_]) dX8_sewing_89 (by decide) rfl rfl ?_
        refine R_iconst (v := 0) dX8_sewing_91 (by decide) ?_
        refine S_istore (ls1 := .ref T :: [.int v1, .int v2, .int v3, .int (s8_lesser 20 (σ_5.2.1 59 (12 + v1).toNatClampNeg)), .int (s8_lesser 20 (σ_5.2.1 59 (18 + v1).toNatClampNeg)), .int (s8_lesser (s8_lesser 20 (σ_5.2.1 59 (24 + v1).toNatClampNeg)) (99 - (σ_5.2.1 59 (18 + v1).toNatClampNeg))), .int 0, U_, U_]) dX8_sewing_92 (by decide) rfl rfl ?_
        exact h G l T hp hK hT
      · replace h := h.2 c9
        refine R_bipush (v := (-100)) dX8_sewing_25 (by decide) ?_
        exact R_iret dX8_sewing_27 rfl rfl ⟨h.1.symm, by rw [h.2]⟩
theorem g8_sewing_94 {d : Nat} {v1 : Int32} {v2 : Int32} {v3 : Int32} {v4 : Int32} {v5 : Int32} {v6 : Int32} {v7 : Int32} {σ σ1 : S8} {r : Option Value} (h : ((40 < v7) → r = some (.int (-100)) ∧ σ1 = σ) ∧ ((¬ 40 < v7) → Rn8 mX8_sewing (d + 5) 104 [.int v1, .int v2, .int v3, .int v4, .int v5, .int v6, .int v7, .int 0, U_] (fun T => []) σ r σ1)) : Rn8 mX8_sewing (d + 5) 94 [.int v1, .int v2, .int v3, .int v4, .int v5, .int v6, .int v7, U_, U_] (fun T => []) σ r σ1 := by
  intro G l T hp hK hT
  refine R_iload dX8_sewing_94 rfl ?_
  refine R_bipush (v := 40) dX8_sewing_96 (by decide) ?_
  refine R_icmp_gt 226 dX8_sewing_98 (by decide) (fun c1 => ?_) (fun c1 => ?_)
  · replace h := h.1 c1
    refine R_bipush (v := (-100)) dX8_sewing_226 (by decide) ?_
    exact R_iret dX8_sewing_228 rfl rfl ⟨h.1.symm, by rw [h.2]⟩
  · replace h := h.2 c1
    refine R_iconst (v := 0) dX8_sewing_101 (by decide) ?_
    refine S_istore (ls1 := .ref T :: [.int v1, .int v2, .int v3, .int v4, .int v5, .int v6, .int v7, .int 0, U_]) dX8_sewing_102 (by decide) rfl rfl ?_
    exact h G l T hp hK hT
theorem g8_sewing_104 {d : Nat} {v1 : Int32} {v2 : Int32} {v3 : Int32} {v4 : Int32} {v5 : Int32} {v6 : Int32} {v7 : Int32} {v8 : Int32} {σ σ1 : S8} {r : Option Value} (h : (((s8_lesser v7 v4) < v8) → Rn8 mX8_sewing (d + 5) 94 [.int v1, .int v2, .int v3, .int v4, .int v5, .int v6, .int (v7 + 1), U_, U_] (fun T => []) σ r σ1) ∧ ((¬ (s8_lesser v7 v4) < v8) → ((v5 < (v7 - v8)) → Rn8 mX8_sewing (d + 5) 165 [.int v1, .int v2, .int v3, .int v4, .int v5, .int v6, .int v7, .int v8, .int (v7 - v8)] (fun T => []) σ r σ1) ∧ ((¬ v5 < (v7 - v8)) → ∃ (r5 : Int32) (σ_3 : S8), Tw8 mX8_isSewn (d + 4) [.int v1, .int v2, .int v8, .int (v7 - v8)] σ (some (.int r5)) σ_3 ∧ (((r5 = 0) → Rn8 mX8_sewing (d + 5) 165 [.int v1, .int v2, .int v3, .int v4, .int v5, .int v6, .int v7, .int v8, .int (v7 - v8)] (fun T => []) σ_3 r σ1) ∧ ((¬ r5 = 0) → r = some (.int (if v3 = 0 then v7 else if v3 = 1 then v8 else v7 - v8)) ∧ σ1 = σ_3))))) : Rn8 mX8_sewing (d + 5) 104 [.int v1, .int v2, .int v3, .int v4, .int v5, .int v6, .int v7, .int v8, U_] (fun T => []) σ r σ1 := by
  intro G l T hp hK hT
  refine R_iload dX8_sewing_104 rfl ?_
  refine R_iload dX8_sewing_106 rfl ?_
  refine R_iload dX8_sewing_108 rfl ?_
  refine T8_callS [.int v7, .int v4] dX8_sewing_110 cs8_431 rfl rfl (Nat.le_of_ble_eq_true rfl) (st8_lesser (d + 3) v7 v4) ?_
  show RnH [] G l mX8_sewing (d + 5) (fun v hp1 => v = r ∧ hp1 = tw T σ1 hp) noX 113 (.ref T :: [.int v1, .int v2, .int v3, .int v4, .int v5, .int v6, .int v7, .int v8, U_]) [.int (s8_lesser v7 v4), .int v8] (tw T σ hp) 0 0
  refine R_icmp_gt 220 dX8_sewing_113 (by decide) (fun c1 => ?_) (fun c1 => ?_)
  · replace h := h.1 c1
    refine S_iinc (v := v7 + 1) (ls1 := .ref T :: [.int v1, .int v2, .int v3, .int v4, .int v5, .int v6, .int (v7 + 1), .int v8, U_]) dX8_sewing_220 rfl rfl (by decide) rfl rfl ?_
    refine R_goto 94 dX8_sewing_223 (by decide) ?_
    refine R_drop 8 ?_
    exact h G l T hp hK hT
  · replace h := h.2 c1
    refine R_iload dX8_sewing_116 rfl ?_
    refine R_iload dX8_sewing_118 rfl ?_
    refine R_isub dX8_sewing_120 ?_
    refine S_istore (ls1 := .ref T :: [.int v1, .int v2, .int v3, .int v4, .int v5, .int v6, .int v7, .int v8, .int (v7 - v8)]) dX8_sewing_121 (by decide) rfl rfl ?_
    refine R_iload dX8_sewing_123 rfl ?_
    refine R_iload dX8_sewing_125 rfl ?_
    refine R_icmp_gt 165 dX8_sewing_127 (by decide) (fun c2 => ?_) (fun c2 => ?_)
    · replace h := h.1 c2
      exact h G l T hp hK hT
    · replace h := h.2 c2
      refine R_aload_n dX8_sewing_130 rfl ?_
      refine R_iload_n dX8_sewing_131 rfl ?_
      refine R_iload_n dX8_sewing_132 rfl ?_
      refine R_iload dX8_sewing_133 rfl ?_
      refine R_iload dX8_sewing_135 rfl ?_
      obtain ⟨r5, σ_3, e4, h⟩ := h
      refine T8_call [.int v1, .int v2, .int v8, .int (v7 - v8)] hK hT dX8_sewing_137 cv8_482 rfl rfl rfl (Nat.le_of_ble_eq_true rfl) e4 ?_
      show RnH [] G l mX8_sewing (d + 5) (fun v hp1 => v = r ∧ hp1 = tw T σ1 hp) noX 140 (.ref T :: [.int v1, .int v2, .int v3, .int v4, .int v5, .int v6, .int v7, .int v8, .int (v7 - v8)]) [.int r5] (tw T σ_3 hp) 0 0
      refine R_if_eq 165 dX8_sewing_140 (by decide) (fun c6 => ?_) (fun c6 => ?_)
      · replace h := h.1 c6
        exact h G l T hp hK hT
      · replace h := h.2 c6
        refine R_iload_n dX8_sewing_143 rfl ?_
        have J7 : RnH [] G l mX8_sewing (d + 5) (fun v hp1 => v = r ∧ hp1 = tw T σ1 hp) noX 164 (.ref T :: [.int v1, .int v2, .int v3, .int v4, .int v5, .int v6, .int v7, .int v8, .int (v7 - v8)]) [.int (if v3 = 0 then v7 else if v3 = 1 then v8 else v7 - v8)] (tw T σ_3 hp) 0 0 := by
          exact R_iret dX8_sewing_164 rfl rfl ⟨h.1.symm, by rw [h.2]⟩
        refine R_if_ne 152 dX8_sewing_144 (by decide) (fun c9 => ?_) (fun c9 => ?_)
        · refine R_iload_n dX8_sewing_152 rfl ?_
          refine R_iconst (v := 1) dX8_sewing_153 (by decide) ?_
          refine R_icmp_ne 162 dX8_sewing_154 (by decide) (fun c10 => ?_) (fun c10 => ?_)
          · refine R_iload dX8_sewing_162 rfl ?_
            simp only [if_neg c9, if_neg c10] at J7
            first | exact J7 | (simp only [if_neg c9, if_neg c10]; exact J7)
          · refine R_iload dX8_sewing_157 rfl ?_
            refine R_goto 164 dX8_sewing_159 (by decide) ?_
            simp only [if_neg c9, if_pos c10] at J7
            first | exact J7 | (simp only [if_neg c9, if_pos c10]; exact J7)
        · refine R_iload dX8_sewing_147 rfl ?_
          refine R_goto 164 dX8_sewing_149 (by decide) ?_
          simp only [if_pos c9] at J7
          first | exact J7 | (simp only [if_pos c9]; exact J7)
theorem g8_sewing_165 {d : Nat} {v1 : Int32} {v2 : Int32} {v3 : Int32} {v4 : Int32} {v5 : Int32} {v6 : Int32} {v7 : Int32} {v8 : Int32} {v9 : Int32} {σ σ1 : S8} {r : Option Value} (h : ((v9 ≤ 0) → Rn8 mX8_sewing (d + 5) 104 [.int v1, .int v2, .int v3, .int v4, .int v5, .int v6, .int v7, .int (v8 + 1), U_] (fun T => []) σ r σ1) ∧ ((¬ v9 ≤ 0) → ((v6 < v9) → Rn8 mX8_sewing (d + 5) 104 [.int v1, .int v2, .int v3, .int v4, .int v5, .int v6, .int v7, .int (v8 + 1), U_] (fun T => []) σ r σ1) ∧ ((¬ v6 < v9) → ∃ (r5 : Int32) (σ_3 : S8), Tw8 mX8_isSewn (d + 4) [.int v1, .int v2, .int v8, .int (-v9)] σ (some (.int r5)) σ_3 ∧ (((r5 = 0) → Rn8 mX8_sewing (d + 5) 104 [.int v1, .int v2, .int v3, .int v4, .int v5, .int v6, .int v7, .int (v8 + 1), U_] (fun T => []) σ_3 r σ1) ∧ ((¬ r5 = 0) → r = some (.int (if v3 = 0 then v7 else if v3 = 1 then v8 else -v9)) ∧ σ1 = σ_3))))) : Rn8 mX8_sewing (d + 5) 165 [.int v1, .int v2, .int v3, .int v4, .int v5, .int v6, .int v7, .int v8, .int v9] (fun T => []) σ r σ1 := by
  intro G l T hp hK hT
  refine R_iload dX8_sewing_165 rfl ?_
  refine R_if_le 214 dX8_sewing_167 (by decide) (fun c1 => ?_) (fun c1 => ?_)
  · replace h := h.1 c1
    refine S_iinc (v := v8 + 1) (ls1 := .ref T :: [.int v1, .int v2, .int v3, .int v4, .int v5, .int v6, .int v7, .int (v8 + 1), .int v9]) dX8_sewing_214 rfl rfl (by decide) rfl rfl ?_
    refine R_goto 104 dX8_sewing_217 (by decide) ?_
    refine R_drop 9 ?_
    exact h G l T hp hK hT
  · replace h := h.2 c1
    refine R_iload dX8_sewing_170 rfl ?_
    refine R_iload dX8_sewing_172 rfl ?_
    refine R_icmp_gt 214 dX8_sewing_174 (by decide) (fun c2 => ?_) (fun c2 => ?_)
    · replace h := h.1 c2
      refine S_iinc (v := v8 + 1) (ls1 := .ref T :: [.int v1, .int v2, .int v3, .int v4, .int v5, .int v6, .int v7, .int (v8 + 1), .int v9]) dX8_sewing_214 rfl rfl (by decide) rfl rfl ?_
      refine R_goto 104 dX8_sewing_217 (by decide) ?_
      refine R_drop 9 ?_
      exact h G l T hp hK hT
    · replace h := h.2 c2
      refine R_aload_n dX8_sewing_177 rfl ?_
      refine R_iload_n dX8_sewing_178 rfl ?_
      refine R_iload_n dX8_sewing_179 rfl ?_
      refine R_iload dX8_sewing_180 rfl ?_
      refine R_iload dX8_sewing_182 rfl ?_
      refine R_ineg dX8_sewing_184 ?_
      obtain ⟨r5, σ_3, e4, h⟩ := h
      refine T8_call [.int v1, .int v2, .int v8, .int (-v9)] hK hT dX8_sewing_185 cv8_482 rfl rfl rfl (Nat.le_of_ble_eq_true rfl) e4 ?_
      show RnH [] G l mX8_sewing (d + 5) (fun v hp1 => v = r ∧ hp1 = tw T σ1 hp) noX 188 (.ref T :: [.int v1, .int v2, .int v3, .int v4, .int v5, .int v6, .int v7, .int v8, .int v9]) [.int r5] (tw T σ_3 hp) 0 0
      refine R_if_eq 214 dX8_sewing_188 (by decide) (fun c6 => ?_) (fun c6 => ?_)
      · replace h := h.1 c6
        refine S_iinc (v := v8 + 1) (ls1 := .ref T :: [.int v1, .int v2, .int v3, .int v4, .int v5, .int v6, .int v7, .int (v8 + 1), .int v9]) dX8_sewing_214 rfl rfl (by decide) rfl rfl ?_
        refine R_goto 104 dX8_sewing_217 (by decide) ?_
        refine R_drop 9 ?_
        exact h G l T hp hK hT
      · replace h := h.2 c6
        refine R_iload_n dX8_sewing_191 rfl ?_
        have J7 : RnH [] G l mX8_sewing (d + 5) (fun v hp1 => v = r ∧ hp1 = tw T σ1 hp) noX 213 (.ref T :: [.int v1, .int v2, .int v3, .int v4, .int v5, .int v6, .int v7, .int v8, .int v9]) [.int (if v3 = 0 then v7 else if v3 = 1 then v8 else -v9)] (tw T σ_3 hp) 0 0 := by
          exact R_iret dX8_sewing_213 rfl rfl ⟨h.1.symm, by rw [h.2]⟩
        refine R_if_ne 200 dX8_sewing_192 (by decide) (fun c9 => ?_) (fun c9 => ?_)
        · refine R_iload_n dX8_sewing_200 rfl ?_
          refine R_iconst (v := 1) dX8_sewing_201 (by decide) ?_
          refine R_icmp_ne 210 dX8_sewing_202 (by decide) (fun c10 => ?_) (fun c10 => ?_)
          · refine R_iload dX8_sewing_210 rfl ?_
            refine R_ineg dX8_sewing_212 ?_
            simp only [if_neg c9, if_neg c10] at J7
            first | exact J7 | (simp only [if_neg c9, if_neg c10]; exact J7)
          · refine R_iload dX8_sewing_205 rfl ?_
            refine R_goto 213 dX8_sewing_207 (by decide) ?_
            simp only [if_neg c9, if_pos c10] at J7
            first | exact J7 | (simp only [if_neg c9, if_pos c10]; exact J7)
        · refine R_iload dX8_sewing_195 rfl ?_
          refine R_goto 213 dX8_sewing_197 (by decide) ?_
          simp only [if_pos c9] at J7
          first | exact J7 | (simp only [if_pos c9]; exact J7)
theorem g8_ask_0 {d : Nat} {v1 : Int32} {v2 : Int32} {σ σ1 : S8} {r : Option Value} (h : ((¬ (s8_isIn v1 0 1) = 0) → ∃ (r4 : Int32) (σ_2 : S8), Tw8 mX8_layGrowths (d + 5) [.int v2] σ (some (.int r4)) σ_2 ∧ (((¬ r4 = 0) → Rn8 mX8_ask (d + 6) 29 [.int v1, .int v2, .int r4, .int 0, .int 1] (fun T => []) σ_2 r σ1) ∧ ((r4 = 0) → r = some (.int (-1)) ∧ σ1 = σ_2))) ∧ (((s8_isIn v1 0 1) = 0) → r = some (.int (-1)) ∧ σ1 = σ)) : Rn8 mX8_ask (d + 6) 0 [.int v1, .int v2, U_, U_, U_] (fun T => []) σ r σ1 := by
  intro G l T hp hK hT
  refine R_iload_n dX8_ask_0 rfl ?_
  refine R_iconst (v := 0) dX8_ask_1 (by decide) ?_
  refine R_iconst (v := 1) dX8_ask_2 (by decide) ?_
  refine T8_callS [.int v1, .int 0, .int 1] dX8_ask_3 cs8_417 rfl rfl (Nat.le_of_ble_eq_true rfl) (st8_isIn (d + 4) v1 0 1) ?_
  show RnH [] G l mX8_ask (d + 6) (fun v hp1 => v = r ∧ hp1 = tw T σ1 hp) noX 6 (.ref T :: [.int v1, .int v2, U_, U_, U_]) [.int (s8_isIn v1 0 1)] (tw T σ hp) 0 0
  refine R_if_ne 11 dX8_ask_6 (by decide) (fun c1 => ?_) (fun c1 => ?_)
  · replace h := h.1 c1
    refine R_aload_n dX8_ask_11 rfl ?_
    refine R_iload_n dX8_ask_12 rfl ?_
    obtain ⟨r4, σ_2, e3, h⟩ := h
    refine T8_call [.int v2] hK hT dX8_ask_13 cv8_534 rfl rfl rfl (Nat.le_of_ble_eq_true rfl) e3 ?_
    show RnH [] G l mX8_ask (d + 6) (fun v hp1 => v = r ∧ hp1 = tw T σ1 hp) noX 16 (.ref T :: [.int v1, .int v2, U_, U_, U_]) [.int r4] (tw T σ_2 hp) 0 0
    refine S_istore_n (ls1 := .ref T :: [.int v1, .int v2, .int r4, U_, U_]) dX8_ask_16 (by decide) rfl rfl ?_
    refine R_iload_n dX8_ask_17 rfl ?_
    refine R_if_ne 23 dX8_ask_18 (by decide) (fun c5 => ?_) (fun c5 => ?_)
    · replace h := h.1 c5
      refine R_iconst (v := 0) dX8_ask_23 (by decide) ?_
      refine S_istore (ls1 := .ref T :: [.int v1, .int v2, .int r4, .int 0, U_]) dX8_ask_24 (by decide) rfl rfl ?_
      refine R_iconst (v := 1) dX8_ask_26 (by decide) ?_
      refine S_istore (ls1 := .ref T :: [.int v1, .int v2, .int r4, .int 0, .int 1]) dX8_ask_27 (by decide) rfl rfl ?_
      exact h G l T hp hK hT
    · replace h := h.2 c5
      refine R_iconst (v := (-1)) dX8_ask_21 (by decide) ?_
      exact R_iret dX8_ask_22 rfl rfl ⟨h.1.symm, by rw [h.2]⟩
  · replace h := h.2 c1
    refine R_iconst (v := (-1)) dX8_ask_9 (by decide) ?_
    exact R_iret dX8_ask_10 rfl rfl ⟨h.1.symm, by rw [h.2]⟩
theorem g8_ask_29 {d : Nat} {v1 : Int32} {v2 : Int32} {v3 : Int32} {v4 : Int32} {v5 : Int32} {σ σ1 : S8} {r : Option Value} (h : ((20 < v5) → ((¬ v1 = 0) → ∃ (r5 : Int32) (σ_3 : S8), Tw8 mX8_leftBy (d + 5) [.int v4, .int v3] σ (some (.int r5)) σ_3 ∧ (r = some (.int r5) ∧ σ1 = σ_3)) ∧ ((v1 = 0) → r = some (.int v4) ∧ σ1 = σ)) ∧ ((¬ 20 < v5) → ∃ (r8 : Int32) (σ_6 : S8), Tw8 mX8_leftBy (d + 5) [.int v5, .int v3] σ (some (.int r8)) σ_6 ∧ (∃ (r11 : Int32) (σ_9 : S8), Tw8 mX8_leftBy (d + 5) [.int v4, .int v3] σ_6 (some (.int r11)) σ_9 ∧ (Rn8 mX8_ask (d + 6) 29 [.int v1, .int v2, .int v3, .int (if r11 ≤ r8 then v4 else v5), .int (v5 + 1)] (fun T => []) σ_9 r σ1)))) : Rn8 mX8_ask (d + 6) 29 [.int v1, .int v2, .int v3, .int v4, .int v5] (fun T => []) σ r σ1 := by
  intro G l T hp hK hT
  refine R_iload dX8_ask_29 rfl ?_
  refine R_bipush (v := 20) dX8_ask_31 (by decide) ?_
  refine R_icmp_gt 68 dX8_ask_33 (by decide) (fun c1 => ?_) (fun c1 => ?_)
  · replace h := h.1 c1
    refine R_iload_n dX8_ask_68 rfl ?_
    refine R_if_ne 77 dX8_ask_69 (by decide) (fun c2 => ?_) (fun c2 => ?_)
    · replace h := h.1 c2
      refine R_aload_n dX8_ask_77 rfl ?_
      refine R_iload dX8_ask_78 rfl ?_
      refine R_iload_n dX8_ask_80 rfl ?_
      obtain ⟨r5, σ_3, e4, h⟩ := h
      refine T8_call [.int v4, .int v3] hK hT dX8_ask_81 cv8_537 rfl rfl rfl (Nat.le_of_ble_eq_true rfl) e4 ?_
      show RnH [] G l mX8_ask (d + 6) (fun v hp1 => v = r ∧ hp1 = tw T σ1 hp) noX 84 (.ref T :: [.int v1, .int v2, .int v3, .int v4, .int v5]) [.int r5] (tw T σ_3 hp) 0 0
      exact R_iret dX8_ask_84 rfl rfl ⟨h.1.symm, by rw [h.2]⟩
    · replace h := h.2 c2
      refine R_iload dX8_ask_72 rfl ?_
      refine R_goto 84 dX8_ask_74 (by decide) ?_
      exact R_iret dX8_ask_84 rfl rfl ⟨h.1.symm, by rw [h.2]⟩
  · replace h := h.2 c1
    refine R_aload_n dX8_ask_36 rfl ?_
    refine R_iload dX8_ask_37 rfl ?_
    refine R_iload_n dX8_ask_39 rfl ?_
    obtain ⟨r8, σ_6, e7, h⟩ := h
    refine T8_call [.int v5, .int v3] hK hT dX8_ask_40 cv8_537 rfl rfl rfl (Nat.le_of_ble_eq_true rfl) e7 ?_
    show RnH [] G l mX8_ask (d + 6) (fun v hp1 => v = r ∧ hp1 = tw T σ1 hp) noX 43 (.ref T :: [.int v1, .int v2, .int v3, .int v4, .int v5]) [.int r8] (tw T σ_6 hp) 0 0
    refine R_aload_n dX8_ask_43 rfl ?_
    refine R_iload dX8_ask_44 rfl ?_
    refine R_iload_n dX8_ask_46 rfl ?_
    obtain ⟨r11, σ_9, e10, h⟩ := h
    refine T8_call [.int v4, .int v3] hK hT dX8_ask_47 cv8_537 rfl rfl rfl (Nat.le_of_ble_eq_true rfl) e10 ?_
    show RnH [] G l mX8_ask (d + 6) (fun v hp1 => v = r ∧ hp1 = tw T σ1 hp) noX 50 (.ref T :: [.int v1, .int v2, .int v3, .int v4, .int v5]) [.int r11, .int r8] (tw T σ_9 hp) 0 0
    have J12 : RnH [] G l mX8_ask (d + 6) (fun v hp1 => v = r ∧ hp1 = tw T σ1 hp) noX 60 (.ref T :: [.int v1, .int v2, .int v3, .int v4, .int v5]) [.int (if r11 ≤ r8 then v4 else v5)] (tw T σ_9 hp) 0 0 := by
      refine S_istore (ls1 := .ref T :: [.int v1, .int v2, .int v3, .int (if r11 ≤ r8 then v4 else v5), .int v5]) dX8_ask_60 (by decide) rfl rfl ?_
      refine S_iinc (v := v5 + 1) (ls1 := .ref T :: [.int v1, .int v2, .int v3, .int (if r11 ≤ r8 then v4 else v5), .int (v5 + 1)]) dX8_ask_62 rfl rfl (by decide) rfl rfl ?_
      refine R_goto 29 dX8_ask_65 (by decide) ?_
      exact h G l T hp hK hT
    refine R_icmp_ge 58 dX8_ask_50 (by decide) (fun c14 => ?_) (fun c14 => ?_)
    · refine R_iload dX8_ask_58 rfl ?_
      simp only [if_pos c14] at J12
      first | exact J12 | (simp only [if_pos c14]; exact J12)
    · refine R_iload dX8_ask_53 rfl ?_
      refine R_goto 60 dX8_ask_55 (by decide) ?_
      simp only [if_neg c14] at J12
      first | exact J12 | (simp only [if_neg c14]; exact J12)
theorem g8_fittedOnes_0 {d : Nat} {σ σ1 : S8} {r : Option Value} (h : Rn8 mX8_fittedOnes (d + 6) 4 [.int 0, .int 0] (fun T => []) σ r σ1) : Rn8 mX8_fittedOnes (d + 6) 0 [U_, U_] (fun T => []) σ r σ1 := by
  intro G l T hp hK hT
  refine R_iconst (v := 0) dX8_fittedOnes_0 (by decide) ?_
  refine S_istore_n (ls1 := .ref T :: [.int 0, U_]) dX8_fittedOnes_1 (by decide) rfl rfl ?_
  refine R_iconst (v := 0) dX8_fittedOnes_2 (by decide) ?_
  refine S_istore_n (ls1 := .ref T :: [.int 0, .int 0]) dX8_fittedOnes_3 (by decide) rfl rfl ?_
  exact h G l T hp hK hT
theorem g8_fittedOnes_4 {d : Nat} {v1 : Int32} {v2 : Int32} {σ σ1 : S8} {r : Option Value} (h : (((σ.1 48) ≤ v2) → r = some (.int v1) ∧ σ1 = σ) ∧ ((¬ (σ.1 48) ≤ v2) → ∃ (r4 : Int32) (σ_2 : S8), Tw8 mX8_fitsOwn (d + 5) [.int v2] σ (some (.int r4)) σ_2 ∧ (Rn8 mX8_fittedOnes (d + 6) 4 [.int (v1 ||| ((s8_truth r4) <<< (v2 &&& 31))), .int (v2 + 1)] (fun T => []) σ_2 r σ1))) : Rn8 mX8_fittedOnes (d + 6) 4 [.int v1, .int v2] (fun T => []) σ r σ1 := by
  intro G l T hp hK hT
  refine R_iload_n dX8_fittedOnes_4 rfl ?_
  refine R_aload_n dX8_fittedOnes_5 rfl ?_
  refine T8_get (x := σ.1 48) hT dX8_fittedOnes_6 fl8_387 ⟨by decide, rfl⟩ rfl ?_
  refine R_icmp_ge 31 dX8_fittedOnes_9 (by decide) (fun c1 => ?_) (fun c1 => ?_)
  · replace h := h.1 c1
    refine R_iload_n dX8_fittedOnes_31 rfl ?_
    exact R_iret dX8_fittedOnes_32 rfl rfl ⟨h.1.symm, by rw [h.2]⟩
  · replace h := h.2 c1
    refine R_iload_n dX8_fittedOnes_12 rfl ?_
    refine R_aload_n dX8_fittedOnes_13 rfl ?_
    refine R_iload_n dX8_fittedOnes_14 rfl ?_
    obtain ⟨r4, σ_2, e3, h⟩ := h
    refine T8_call [.int v2] hK hT dX8_fittedOnes_15 cv8_428 rfl rfl rfl (Nat.le_of_ble_eq_true rfl) e3 ?_
    show RnH [] G l mX8_fittedOnes (d + 6) (fun v hp1 => v = r ∧ hp1 = tw T σ1 hp) noX 18 (.ref T :: [.int v1, .int v2]) [.int r4, .int v1] (tw T σ_2 hp) 0 0
    refine T8_callS [.int r4] dX8_fittedOnes_18 cs8_310 rfl rfl (Nat.le_of_ble_eq_true rfl) (st8_truth (d + 4) r4) ?_
    show RnH [] G l mX8_fittedOnes (d + 6) (fun v hp1 => v = r ∧ hp1 = tw T σ1 hp) noX 21 (.ref T :: [.int v1, .int v2]) [.int (s8_truth r4), .int v1] (tw T σ_2 hp) 0 0
    refine R_iload_n dX8_fittedOnes_21 rfl ?_
    refine R_ishl dX8_fittedOnes_22 ?_
    refine R_ior dX8_fittedOnes_23 ?_
    refine S_istore_n (ls1 := .ref T :: [.int (v1 ||| ((s8_truth r4) <<< (v2 &&& 31))), .int v2]) dX8_fittedOnes_24 (by decide) rfl rfl ?_
    refine S_iinc (v := v2 + 1) (ls1 := .ref T :: [.int (v1 ||| ((s8_truth r4) <<< (v2 &&& 31))), .int (v2 + 1)]) dX8_fittedOnes_25 rfl rfl (by decide) rfl rfl ?_
    refine R_goto 4 dX8_fittedOnes_28 (by decide) ?_
    exact h G l T hp hK hT
theorem g8_growths_0 {d : Nat} {v1 : Int32} {σ σ1 : S8} {r : Option Value} (h : ∃ (r3 : Int32) (σ_1 : S8), Tw8 mX8_layGrowths (d + 5) [.int v1] σ (some (.int r3)) σ_1 ∧ (r = some (.int r3) ∧ σ1 = σ_1)) : Rn8 mX8_growths (d + 6) 0 [.int v1] (fun T => []) σ r σ1 := by
  intro G l T hp hK hT
  refine R_aload_n dX8_growths_0 rfl ?_
  refine R_iload_n dX8_growths_1 rfl ?_
  obtain ⟨r3, σ_1, e2, h⟩ := h
  refine T8_call [.int v1] hK hT dX8_growths_2 cv8_534 rfl rfl rfl (Nat.le_of_ble_eq_true rfl) e2 ?_
  show RnH [] G l mX8_growths (d + 6) (fun v hp1 => v = r ∧ hp1 = tw T σ1 hp) noX 5 (.ref T :: [.int v1]) [.int r3] (tw T σ_1 hp) 0 0
  exact R_iret dX8_growths_5 rfl rfl ⟨h.1.symm, by rw [h.2]⟩
theorem g8_man_0 {d : Nat} {v1 : Int32} {v2 : Int32} {σ σ1 : S8} {r : Option Value} (h : ∃ (r3 : Int32) (σ_1 : S8), Tw8 mX8_isMan (d + 5) [.int v1] σ (some (.int r3)) σ_1 ∧ (((¬ r3 = 0) → ∃ σ_5 : S8, Tw8 mX8_fill (d + 5) [] σ_1 none σ_5 ∧ (((v2.toInt < 0 ∨ 4 < v2.toInt) → r = some (.int (-2)) ∧ σ1 = σ_5) ∧ (v2 = 0 → vp_in v1 6 ∧ (r = some (.int (σ_5.2.1 34 v1.toNatClampNeg)) ∧ σ1 = σ_5)) ∧ (v2 = 1 → vp_in v1 39 ∧ (r = some (.int (σ_5.2.1 60 v1.toNatClampNeg)) ∧ σ1 = σ_5)) ∧ (v2 = 2 → vp_in v1 6 ∧ (r = some (.int (σ_5.2.1 36 v1.toNatClampNeg)) ∧ σ1 = σ_5)) ∧ (v2 = 3 → vp_in (6 + v1) 39 ∧ (r = some (.int (σ_5.2.1 60 (6 + v1).toNatClampNeg)) ∧ σ1 = σ_5)) ∧ (v2 = 4 → ∃ (r13 : Int32) (σ_11 : S8), Tw8 mX8_coatsFor (d + 5) [.int v1] σ_5 (some (.int r13)) σ_11 ∧ (r = some (.int r13) ∧ σ1 = σ_11)))) ∧ ((r3 = 0) → r = some (.int (-2)) ∧ σ1 = σ_1))) : Rn8 mX8_man (d + 6) 0 [.int v1, .int v2] (fun T => []) σ r σ1 := by
  intro G l T hp hK hT
  refine R_aload_n dX8_man_0 rfl ?_
  refine R_iload_n dX8_man_1 rfl ?_
  obtain ⟨r3, σ_1, e2, h⟩ := h
  refine T8_call [.int v1] hK hT dX8_man_2 cv8_446 rfl rfl rfl (Nat.le_of_ble_eq_true rfl) e2 ?_
  show RnH [] G l mX8_man (d + 6) (fun v hp1 => v = r ∧ hp1 = tw T σ1 hp) noX 5 (.ref T :: [.int v1, .int v2]) [.int r3] (tw T σ_1 hp) 0 0
  refine R_if_ne 11 dX8_man_5 (by decide) (fun c4 => ?_) (fun c4 => ?_)
  · replace h := h.1 c4
    refine R_aload_n dX8_man_11 rfl ?_
    obtain ⟨σ_5, e6, h⟩ := h
    refine T8_call [] hK hT dX8_man_12 cv8_449 rfl rfl rfl (Nat.le_of_ble_eq_true rfl) e6 ?_
    show RnH [] G l mX8_man (d + 6) (fun v hp1 => v = r ∧ hp1 = tw T σ1 hp) noX 15 (.ref T :: [.int v1, .int v2]) [] (tw T σ_5 hp) 0 0
    refine R_iload_n dX8_man_15 rfl ?_
    by_cases hlo : v2.toInt < 0 ∨ 4 < v2.toInt
    · replace h := h.1 hlo
      refine R_tabOut 89 dX8_man_16 hlo (by decide) ?_
      refine R_bipush (v := (-2)) dX8_man_89 (by decide) ?_
      exact R_iret dX8_man_91 rfl rfl ⟨h.1.symm, by rw [h.2]⟩
    · replace h := h.2
      rcases (show v2.toInt = 0 ∨ v2.toInt = 1 ∨ v2.toInt = 2 ∨ v2.toInt = 3 ∨ v2.toInt = 4 by omega) with e9 | e9 | e9 | e9 | e9
      · replace e9 : v2 = 0 := Int32.toInt_inj.mp (e9.trans (by decide))
        replace h := h.1 e9
        subst e9
        refine R_tabIn 52 dX8_man_16 (by decide) (by decide) rfl (by decide) ?_
        refine R_aload_n dX8_man_52 rfl ?_
        refine T8_geta hT dX8_man_53 fl8_63 ⟨by decide, by decide, by decide⟩ ?_
        refine R_iload_n dX8_man_56 rfl ?_
        have b7 := h.1
        replace h := h.2
        refine T8_iald (x := σ_5.2.1 34 v1.toNatClampNeg) hT dX8_man_57 ⟨by decide, rfl⟩ b7 rfl ?_
        exact R_iret dX8_man_58 rfl rfl ⟨h.1.symm, by rw [h.2]⟩
      · replace e9 : v2 = 1 := Int32.toInt_inj.mp (e9.trans (by decide))
        replace h := h.2.1 e9
        subst e9
        refine R_tabIn 59 dX8_man_16 (by decide) (by decide) rfl (by decide) ?_
        refine R_aload_n dX8_man_59 rfl ?_
        refine T8_geta hT dX8_man_60 fl8_96 ⟨by decide, by decide, by decide⟩ ?_
        refine R_iload_n dX8_man_63 rfl ?_
        have b8 := h.1
        replace h := h.2
        refine T8_iald (x := σ_5.2.1 60 v1.toNatClampNeg) hT dX8_man_64 ⟨by decide, rfl⟩ b8 rfl ?_
        exact R_iret dX8_man_65 rfl rfl ⟨h.1.symm, by rw [h.2]⟩
      · replace e9 : v2 = 2 := Int32.toInt_inj.mp (e9.trans (by decide))
        replace h := h.2.2.1 e9
        subst e9
        refine R_tabIn 66 dX8_man_16 (by decide) (by decide) rfl (by decide) ?_
        refine R_aload_n dX8_man_66 rfl ?_
        refine T8_geta hT dX8_man_67 fl8_69 ⟨by decide, by decide, by decide⟩ ?_
        refine R_iload_n dX8_man_70 rfl ?_
        have b9 := h.1
        replace h := h.2
        refine T8_iald (x := σ_5.2.1 36 v1.toNatClampNeg) hT dX8_man_71 ⟨by decide, rfl⟩ b9 rfl ?_
        exact R_iret dX8_man_72 rfl rfl ⟨h.1.symm, by rw [h.2]⟩
      · replace e9 : v2 = 3 := Int32.toInt_inj.mp (e9.trans (by decide))
        replace h := h.2.2.2.1 e9
        subst e9
        refine R_tabIn 73 dX8_man_16 (by decide) (by decide) rfl (by decide) ?_
        refine R_aload_n dX8_man_73 rfl ?_
        refine T8_geta hT dX8_man_74 fl8_96 ⟨by decide, by decide, by decide⟩ ?_
        refine R_bipush (v := 6) dX8_man_77 (by decide) ?_
        refine R_iload_n dX8_man_79 rfl ?_
        refine R_iadd dX8_man_80 ?_
        have b10 := h.1
        replace h := h.2
        refine T8_iald (x := σ_5.2.1 60 (6 + v1).toNatClampNeg) hT dX8_man_81 ⟨by decide, rfl⟩ b10 rfl ?_
        exact R_iret dX8_man_82 rfl rfl ⟨h.1.symm, by rw [h.2]⟩
      · replace e9 : v2 = 4 := Int32.toInt_inj.mp (e9.trans (by decide))
        replace h := h.2.2.2.2 e9
        subst e9
        refine R_tabIn 83 dX8_man_16 (by decide) (by decide) rfl (by decide) ?_
        refine R_aload_n dX8_man_83 rfl ?_
        refine R_iload_n dX8_man_84 rfl ?_
        obtain ⟨r13, σ_11, e12, h⟩ := h
        refine T8_call [.int v1] hK hT dX8_man_85 cv8_452 rfl rfl rfl (Nat.le_of_ble_eq_true rfl) e12 ?_
        show RnH [] G l mX8_man (d + 6) (fun v hp1 => v = r ∧ hp1 = tw T σ1 hp) noX 88 (.ref T :: [.int v1, .int 4]) [.int r13] (tw T σ_11 hp) 0 0
        exact R_iret dX8_man_88 rfl rfl ⟨h.1.symm, by rw [h.2]⟩
  · replace h := h.2 c4
    refine R_bipush (v := (-2)) dX8_man_8 (by decide) ?_
    exact R_iret dX8_man_10 rfl rfl ⟨h.1.symm, by rw [h.2]⟩
theorem g8_naked_0 {d : Nat} {σ σ1 : S8} {r : Option Value} (h : ∃ σ_1 : S8, Tw8 mX8_fill (d + 5) [] σ none σ_1 ∧ (Rn8 mX8_naked (d + 6) 8 [.int 0, .int 0] (fun T => []) σ_1 r σ1)) : Rn8 mX8_naked (d + 6) 0 [U_, U_] (fun T => []) σ r σ1 := by
  intro G l T hp hK hT
  refine R_aload_n dX8_naked_0 rfl ?_
  obtain ⟨σ_1, e2, h⟩ := h
  refine T8_call [] hK hT dX8_naked_1 cv8_449 rfl rfl rfl (Nat.le_of_ble_eq_true rfl) e2 ?_
  show RnH [] G l mX8_naked (d + 6) (fun v hp1 => v = r ∧ hp1 = tw T σ1 hp) noX 4 (.ref T :: [U_, U_]) [] (tw T σ_1 hp) 0 0
  refine R_iconst (v := 0) dX8_naked_4 (by decide) ?_
  refine S_istore_n (ls1 := .ref T :: [.int 0, U_]) dX8_naked_5 (by decide) rfl rfl ?_
  refine R_iconst (v := 0) dX8_naked_6 (by decide) ?_
  refine S_istore_n (ls1 := .ref T :: [.int 0, .int 0]) dX8_naked_7 (by decide) rfl rfl ?_
  exact h G l T hp hK hT
theorem g8_naked_8 {d : Nat} {v1 : Int32} {v2 : Int32} {σ σ1 : S8} {r : Option Value} (h : (((σ.1 48) ≤ v2) → r = some (.int v1) ∧ σ1 = σ) ∧ ((¬ (σ.1 48) ≤ v2) → ∃ (r4 : Int32) (σ_2 : S8), Tw8 mX8_coatsFor (d + 5) [.int v2] σ (some (.int r4)) σ_2 ∧ (Rn8 mX8_naked (d + 6) 8 [.int (v1 ||| ((s8_truth (if r4 = 0 then 1 else 0)) <<< (v2 &&& 31))), .int (v2 + 1)] (fun T => []) σ_2 r σ1))) : Rn8 mX8_naked (d + 6) 8 [.int v1, .int v2] (fun T => []) σ r σ1 := by
  intro G l T hp hK hT
  refine R_iload_n dX8_naked_8 rfl ?_
  refine R_aload_n dX8_naked_9 rfl ?_
  refine T8_get (x := σ.1 48) hT dX8_naked_10 fl8_387 ⟨by decide, rfl⟩ rfl ?_
  refine R_icmp_ge 43 dX8_naked_13 (by decide) (fun c1 => ?_) (fun c1 => ?_)
  · replace h := h.1 c1
    refine R_iload_n dX8_naked_43 rfl ?_
    exact R_iret dX8_naked_44 rfl rfl ⟨h.1.symm, by rw [h.2]⟩
  · replace h := h.2 c1
    refine R_iload_n dX8_naked_16 rfl ?_
    refine R_aload_n dX8_naked_17 rfl ?_
    refine R_iload_n dX8_naked_18 rfl ?_
    obtain ⟨r4, σ_2, e3, h⟩ := h
    refine T8_call [.int v2] hK hT dX8_naked_19 cv8_452 rfl rfl rfl (Nat.le_of_ble_eq_true rfl) e3 ?_
    show RnH [] G l mX8_naked (d + 6) (fun v hp1 => v = r ∧ hp1 = tw T σ1 hp) noX 22 (.ref T :: [.int v1, .int v2]) [.int r4, .int v1] (tw T σ_2 hp) 0 0
    have J5 : RnH [] G l mX8_naked (d + 6) (fun v hp1 => v = r ∧ hp1 = tw T σ1 hp) noX 30 (.ref T :: [.int v1, .int v2]) [.int (if r4 = 0 then 1 else 0), .int v1] (tw T σ_2 hp) 0 0 := by
      refine T8_callS [.int (if r4 = 0 then 1 else 0)] dX8_naked_30 cs8_310 rfl rfl (Nat.le_of_ble_eq_true rfl) (st8_truth (d + 4) (if r4 = 0 then 1 else 0)) ?_
      show RnH [] G l mX8_naked (d + 6) (fun v hp1 => v = r ∧ hp1 = tw T σ1 hp) noX 33 (.ref T :: [.int v1, .int v2]) [.int (s8_truth (if r4 = 0 then 1 else 0)), .int v1] (tw T σ_2 hp) 0 0
      refine R_iload_n dX8_naked_33 rfl ?_
      refine R_ishl dX8_naked_34 ?_
      refine R_ior dX8_naked_35 ?_
      refine S_istore_n (ls1 := .ref T :: [.int (v1 ||| ((s8_truth (if r4 = 0 then 1 else 0)) <<< (v2 &&& 31))), .int v2]) dX8_naked_36 (by decide) rfl rfl ?_
      refine S_iinc (v := v2 + 1) (ls1 := .ref T :: [.int (v1 ||| ((s8_truth (if r4 = 0 then 1 else 0)) <<< (v2 &&& 31))), .int (v2 + 1)]) dX8_naked_37 rfl rfl (by decide) rfl rfl ?_
      refine R_goto 8 dX8_naked_40 (by decide) ?_
      exact h G l T hp hK hT
    refine R_if_ne 29 dX8_naked_22 (by decide) (fun c7 => ?_) (fun c7 => ?_)
    · refine R_iconst (v := 0) dX8_naked_29 (by decide) ?_
      simp only [if_neg c7] at J5
      first | exact J5 | (simp only [if_neg c7]; exact J5)
    · refine R_iconst (v := 1) dX8_naked_25 (by decide) ?_
      refine R_goto 30 dX8_naked_26 (by decide) ?_
      simp only [if_pos c7] at J5
      first | exact J5 | (simp only [if_pos c7]; exact J5)
theorem g8_popular_0 {d : Nat} {v1 : Int32} {σ σ1 : S8} {r : Option Value} (h : ∃ σ_1 : S8, Tw8 mX8_fill (d + 5) [] σ none σ_1 ∧ (∃ (r5 : Int32) (σ_3 : S8), Tw8 mX8_isCoat (d + 5) [.int v1] σ_1 (some (.int r5)) σ_3 ∧ (((r5 = 0) → r = some (.int (-1)) ∧ σ1 = σ_3) ∧ ((¬ r5 = 0) → ∃ (r9 : Int32) (σ_7 : S8), Tw8 mX8_menFor (d + 5) [.int v1] σ_3 (some (.int r9)) σ_7 ∧ (r = some (.int r9) ∧ σ1 = σ_7))))) : Rn8 mX8_popular (d + 6) 0 [.int v1] (fun T => []) σ r σ1 := by
  intro G l T hp hK hT
  refine R_aload_n dX8_popular_0 rfl ?_
  obtain ⟨σ_1, e2, h⟩ := h
  refine T8_call [] hK hT dX8_popular_1 cv8_449 rfl rfl rfl (Nat.le_of_ble_eq_true rfl) e2 ?_
  show RnH [] G l mX8_popular (d + 6) (fun v hp1 => v = r ∧ hp1 = tw T σ1 hp) noX 4 (.ref T :: [.int v1]) [] (tw T σ_1 hp) 0 0
  refine R_aload_n dX8_popular_4 rfl ?_
  refine R_iload_n dX8_popular_5 rfl ?_
  obtain ⟨r5, σ_3, e4, h⟩ := h
  refine T8_call [.int v1] hK hT dX8_popular_6 cv8_455 rfl rfl rfl (Nat.le_of_ble_eq_true rfl) e4 ?_
  show RnH [] G l mX8_popular (d + 6) (fun v hp1 => v = r ∧ hp1 = tw T σ1 hp) noX 9 (.ref T :: [.int v1]) [.int r5] (tw T σ_3 hp) 0 0
  refine R_if_eq 20 dX8_popular_9 (by decide) (fun c6 => ?_) (fun c6 => ?_)
  · replace h := h.1 c6
    refine R_iconst (v := (-1)) dX8_popular_20 (by decide) ?_
    exact R_iret dX8_popular_21 rfl rfl ⟨h.1.symm, by rw [h.2]⟩
  · replace h := h.2 c6
    refine R_aload_n dX8_popular_12 rfl ?_
    refine R_iload_n dX8_popular_13 rfl ?_
    obtain ⟨r9, σ_7, e8, h⟩ := h
    refine T8_call [.int v1] hK hT dX8_popular_14 cv8_518 rfl rfl rfl (Nat.le_of_ble_eq_true rfl) e8 ?_
    show RnH [] G l mX8_popular (d + 6) (fun v hp1 => v = r ∧ hp1 = tw T σ1 hp) noX 17 (.ref T :: [.int v1]) [.int r9] (tw T σ_7 hp) 0 0
    refine R_goto 21 dX8_popular_17 (by decide) ?_
    exact R_iret dX8_popular_21 rfl rfl ⟨h.1.symm, by rw [h.2]⟩
theorem g8_rags_0 {d : Nat} {σ σ1 : S8} {r : Option Value} (h : ∃ σ_1 : S8, Tw8 mX8_fill (d + 5) [] σ none σ_1 ∧ (Rn8 mX8_rags (d + 6) 8 [.int 0, .int 0] (fun T => []) σ_1 r σ1)) : Rn8 mX8_rags (d + 6) 0 [U_, U_] (fun T => []) σ r σ1 := by
  intro G l T hp hK hT
  refine R_aload_n dX8_rags_0 rfl ?_
  obtain ⟨σ_1, e2, h⟩ := h
  refine T8_call [] hK hT dX8_rags_1 cv8_449 rfl rfl rfl (Nat.le_of_ble_eq_true rfl) e2 ?_
  show RnH [] G l mX8_rags (d + 6) (fun v hp1 => v = r ∧ hp1 = tw T σ1 hp) noX 4 (.ref T :: [U_, U_]) [] (tw T σ_1 hp) 0 0
  refine R_iconst (v := 0) dX8_rags_4 (by decide) ?_
  refine S_istore_n (ls1 := .ref T :: [.int 0, U_]) dX8_rags_5 (by decide) rfl rfl ?_
  refine R_iconst (v := 0) dX8_rags_6 (by decide) ?_
  refine S_istore_n (ls1 := .ref T :: [.int 0, .int 0]) dX8_rags_7 (by decide) rfl rfl ?_
  exact h G l T hp hK hT
theorem g8_rags_8 {d : Nat} {v1 : Int32} {v2 : Int32} {σ σ1 : S8} {r : Option Value} (h : (((σ.1 49) ≤ v2) → r = some (.int v1) ∧ σ1 = σ) ∧ ((¬ (σ.1 49) ≤ v2) → ∃ (r4 : Int32) (σ_2 : S8), Tw8 mX8_menFor (d + 5) [.int v2] σ (some (.int r4)) σ_2 ∧ (Rn8 mX8_rags (d + 6) 8 [.int (v1 ||| ((s8_truth (if r4 = 0 then 1 else 0)) <<< (v2 &&& 31))), .int (v2 + 1)] (fun T => []) σ_2 r σ1))) : Rn8 mX8_rags (d + 6) 8 [.int v1, .int v2] (fun T => []) σ r σ1 := by
  intro G l T hp hK hT
  refine R_iload_n dX8_rags_8 rfl ?_
  refine R_aload_n dX8_rags_9 rfl ?_
  refine T8_get (x := σ.1 49) hT dX8_rags_10 fl8_390 ⟨by decide, rfl⟩ rfl ?_
  refine R_icmp_ge 43 dX8_rags_13 (by decide) (fun c1 => ?_) (fun c1 => ?_)
  · replace h := h.1 c1
    refine R_iload_n dX8_rags_43 rfl ?_
    exact R_iret dX8_rags_44 rfl rfl ⟨h.1.symm, by rw [h.2]⟩
  · replace h := h.2 c1
    refine R_iload_n dX8_rags_16 rfl ?_
    refine R_aload_n dX8_rags_17 rfl ?_
    refine R_iload_n dX8_rags_18 rfl ?_
    obtain ⟨r4, σ_2, e3, h⟩ := h
    refine T8_call [.int v2] hK hT dX8_rags_19 cv8_518 rfl rfl rfl (Nat.le_of_ble_eq_true rfl) e3 ?_
    show RnH [] G l mX8_rags (d + 6) (fun v hp1 => v = r ∧ hp1 = tw T σ1 hp) noX 22 (.ref T :: [.int v1, .int v2]) [.int r4, .int v1] (tw T σ_2 hp) 0 0
    have J5 : RnH [] G l mX8_rags (d + 6) (fun v hp1 => v = r ∧ hp1 = tw T σ1 hp) noX 30 (.ref T :: [.int v1, .int v2]) [.int (if r4 = 0 then 1 else 0), .int v1] (tw T σ_2 hp) 0 0 := by
      refine T8_callS [.int (if r4 = 0 then 1 else 0)] dX8_rags_30 cs8_310 rfl rfl (Nat.le_of_ble_eq_true rfl) (st8_truth (d + 4) (if r4 = 0 then 1 else 0)) ?_
      show RnH [] G l mX8_rags (d + 6) (fun v hp1 => v = r ∧ hp1 = tw T σ1 hp) noX 33 (.ref T :: [.int v1, .int v2]) [.int (s8_truth (if r4 = 0 then 1 else 0)), .int v1] (tw T σ_2 hp) 0 0
      refine R_iload_n dX8_rags_33 rfl ?_
      refine R_ishl dX8_rags_34 ?_
      refine R_ior dX8_rags_35 ?_
      refine S_istore_n (ls1 := .ref T :: [.int (v1 ||| ((s8_truth (if r4 = 0 then 1 else 0)) <<< (v2 &&& 31))), .int v2]) dX8_rags_36 (by decide) rfl rfl ?_
      refine S_iinc (v := v2 + 1) (ls1 := .ref T :: [.int (v1 ||| ((s8_truth (if r4 = 0 then 1 else 0)) <<< (v2 &&& 31))), .int (v2 + 1)]) dX8_rags_37 rfl rfl (by decide) rfl rfl ?_
      refine R_goto 8 dX8_rags_40 (by decide) ?_
      exact h G l T hp hK hT
    refine R_if_ne 29 dX8_rags_22 (by decide) (fun c7 => ?_) (fun c7 => ?_)
    · refine R_iconst (v := 0) dX8_rags_29 (by decide) ?_
      simp only [if_neg c7] at J5
      first | exact J5 | (simp only [if_neg c7]; exact J5)
    · refine R_iconst (v := 1) dX8_rags_25 (by decide) ?_
      refine R_goto 30 dX8_rags_26 (by decide) ?_
      simp only [if_pos c7] at J5
      first | exact J5 | (simp only [if_pos c7]; exact J5)
theorem g8_readCoat_0 {d : Nat} {σ σ1 : S8} {r : Option Value} (h : ∃ σ_1 : S8, Tw8 mX8_newName (d + 5) [.int 6, .int (σ.1 42)] σ none σ_1 ∧ (∃ (r5 : Int32) (σ_3 : S8), Tw8 mX8_told (d + 5) [.long 1952541804, .int 99] σ_1 (some (.int r5)) σ_3 ∧ (vp_in (σ_1.1 42) 6 ∧ (∃ (r9 : Int32) (σ_7 : S8), Tw8 mX8_told (d + 5) [.long 2003395685, .int 99] (σ_3.1, upA σ_3.2.1 30 (upd (σ_3.2.1 30) (σ_1.1 42).toNatClampNeg r5), σ_3.2.2.1, σ_3.2.2.2) (some (.int r9)) σ_7 ∧ (vp_in (σ_3.1 42) 6 ∧ (∃ (r13 : Int32) (σ_11 : S8), Tw8 mX8_option (d + 5) [.long 1936023917, .int 20] (σ_7.1, upA σ_7.2.1 31 (upd (σ_7.2.1 31) (σ_3.1 42).toNatClampNeg r9), σ_7.2.2.1, σ_7.2.2.2) (some (.int r13)) σ_11 ∧ (vp_in (σ_7.1 42) 6 ∧ (∃ (r17 : Int32) (σ_15 : S8), Tw8 mX8_option (d + 5) [.long 2003792494, .int 99] (σ_11.1, upA σ_11.2.1 32 (upd (σ_11.2.1 32) (σ_7.1 42).toNatClampNeg r13), σ_11.2.2.1, σ_11.2.2.2) (some (.int r17)) σ_15 ∧ (vp_in (σ_11.1 42) 6 ∧ (((¬ (σ_15.1 2) = 0) → r = none ∧ σ1 = (σ_15.1, upA σ_15.2.1 33 (upd (σ_15.2.1 33) (σ_11.1 42).toNatClampNeg r17), σ_15.2.2.1, σ_15.2.2.2)) ∧ (((σ_15.1 2) = 0) → r = none ∧ σ1 = (upd σ_15.1 42 ((σ_15.1 42) + 1), upA σ_15.2.1 33 (upd (σ_15.2.1 33) (σ_11.1 42).toNatClampNeg r17), σ_15.2.2.1, σ_15.2.2.2)))))))))))) : Rn8 mX8_readCoat (d + 6) 0 [] (fun T => []) σ r σ1 := by
  intro G l T hp hK hT
  refine R_aload_n dX8_readCoat_0 rfl ?_
  refine R_bipush (v := 6) dX8_readCoat_1 (by decide) ?_
  refine R_aload_n dX8_readCoat_3 rfl ?_
  refine T8_get (x := σ.1 42) hT dX8_readCoat_4 fl8_339 ⟨by decide, rfl⟩ rfl ?_
  obtain ⟨σ_1, e2, h⟩ := h
  refine T8_call [.int 6, .int (σ.1 42)] hK hT dX8_readCoat_7 cv8_333 rfl rfl rfl (Nat.le_of_ble_eq_true rfl) e2 ?_
  show RnH [] G l mX8_readCoat (d + 6) (fun v hp1 => v = r ∧ hp1 = tw T σ1 hp) noX 10 (.ref T :: []) [] (tw T σ_1 hp) 0 0
  refine R_aload_n dX8_readCoat_10 rfl ?_
  refine T8_geta hT dX8_readCoat_11 fl8_51 ⟨by decide, by decide, by decide⟩ ?_
  refine R_aload_n dX8_readCoat_14 rfl ?_
  refine T8_get (x := σ_1.1 42) hT dX8_readCoat_15 fl8_339 ⟨by decide, rfl⟩ rfl ?_
  refine R_aload_n dX8_readCoat_18 rfl ?_
  refine R_ldc2 dX8_readCoat_19 q1724 ?_
  refine R_bipush (v := 99) dX8_readCoat_22 (by decide) ?_
  obtain ⟨r5, σ_3, e4, h⟩ := h
  refine T8_call [.long 1952541804, .int 99] hK hT dX8_readCoat_24 cv8_246 rfl rfl rfl (Nat.le_of_ble_eq_true rfl) e4 ?_
  show RnH [] G l mX8_readCoat (d + 6) (fun v hp1 => v = r ∧ hp1 = tw T σ1 hp) noX 27 (.ref T :: []) [.int r5, .int (σ_1.1 42), .ref (a8 T 30)] (tw T σ_3 hp) 0 0
  have b6 := h.1
  refine T8_iast (σ9 := (σ_3.1, upA σ_3.2.1 30 (upd (σ_3.2.1 30) (σ_1.1 42).toNatClampNeg r5), σ_3.2.2.1, σ_3.2.2.2)) hK hT dX8_readCoat_27 ⟨by decide, rfl⟩ b6 rfl ?_
  replace h := h.2
  refine R_aload_n dX8_readCoat_28 rfl ?_
  refine T8_geta hT dX8_readCoat_29 fl8_54 ⟨by decide, by decide, by decide⟩ ?_
  refine R_aload_n dX8_readCoat_32 rfl ?_
  refine T8_get (x := σ_3.1 42) hT dX8_readCoat_33 fl8_339 ⟨by decide, rfl⟩ rfl ?_
  refine R_aload_n dX8_readCoat_36 rfl ?_
  refine R_ldc2 dX8_readCoat_37 q1725 ?_
  refine R_bipush (v := 99) dX8_readCoat_40 (by decide) ?_
  obtain ⟨r9, σ_7, e8, h⟩ := h
  refine T8_call [.long 2003395685, .int 99] hK hT dX8_readCoat_42 cv8_246 rfl rfl rfl (Nat.le_of_ble_eq_true rfl) e8 ?_
  show RnH [] G l mX8_readCoat (d + 6) (fun v hp1 => v = r ∧ hp1 = tw T σ1 hp) noX 45 (.ref T :: []) [.int r9, .int (σ_3.1 42), .ref (a8 T 31)] (tw T σ_7 hp) 0 0
  have b10 := h.1
  refine T8_iast (σ9 := (σ_7.1, upA σ_7.2.1 31 (upd (σ_7.2.1 31) (σ_3.1 42).toNatClampNeg r9), σ_7.2.2.1, σ_7.2.2.2)) hK hT dX8_readCoat_45 ⟨by decide, rfl⟩ b10 rfl ?_
  replace h := h.2
  refine R_aload_n dX8_readCoat_46 rfl ?_
  refine T8_geta hT dX8_readCoat_47 fl8_57 ⟨by decide, by decide, by decide⟩ ?_
  refine R_aload_n dX8_readCoat_50 rfl ?_
  refine T8_get (x := σ_7.1 42) hT dX8_readCoat_51 fl8_339 ⟨by decide, rfl⟩ rfl ?_
  refine R_aload_n dX8_readCoat_54 rfl ?_
  refine R_ldc2 dX8_readCoat_55 q1728 ?_
  refine R_bipush (v := 20) dX8_readCoat_58 (by decide) ?_
  obtain ⟨r13, σ_11, e12, h⟩ := h
  refine T8_call [.long 1936023917, .int 20] hK hT dX8_readCoat_60 cv8_336 rfl rfl rfl (Nat.le_of_ble_eq_true rfl) e12 ?_
  show RnH [] G l mX8_readCoat (d + 6) (fun v hp1 => v = r ∧ hp1 = tw T σ1 hp) noX 63 (.ref T :: []) [.int r13, .int (σ_7.1 42), .ref (a8 T 32)] (tw T σ_11 hp) 0 0
  have b14 := h.1
  refine T8_iast (σ9 := (σ_11.1, upA σ_11.2.1 32 (upd (σ_11.2.1 32) (σ_7.1 42).toNatClampNeg r13), σ_11.2.2.1, σ_11.2.2.2)) hK hT dX8_readCoat_63 ⟨by decide, rfl⟩ b14 rfl ?_
  replace h := h.2
  refine R_aload_n dX8_readCoat_64 rfl ?_
  refine T8_geta hT dX8_readCoat_65 fl8_60 ⟨by decide, by decide, by decide⟩ ?_
  refine R_aload_n dX8_readCoat_68 rfl ?_
  refine T8_get (x := σ_11.1 42) hT dX8_readCoat_69 fl8_339 ⟨by decide, rfl⟩ rfl ?_
  refine R_aload_n dX8_readCoat_72 rfl ?_
  refine R_ldc2 dX8_readCoat_73 q1729 ?_
  refine R_bipush (v := 99) dX8_readCoat_76 (by decide) ?_
  obtain ⟨r17, σ_15, e16, h⟩ := h
  refine T8_call [.long 2003792494, .int 99] hK hT dX8_readCoat_78 cv8_336 rfl rfl rfl (Nat.le_of_ble_eq_true rfl) e16 ?_
  show RnH [] G l mX8_readCoat (d + 6) (fun v hp1 => v = r ∧ hp1 = tw T σ1 hp) noX 81 (.ref T :: []) [.int r17, .int (σ_11.1 42), .ref (a8 T 33)] (tw T σ_15 hp) 0 0
  have b18 := h.1
  refine T8_iast (σ9 := (σ_15.1, upA σ_15.2.1 33 (upd (σ_15.2.1 33) (σ_11.1 42).toNatClampNeg r17), σ_15.2.2.1, σ_15.2.2.2)) hK hT dX8_readCoat_81 ⟨by decide, rfl⟩ b18 rfl ?_
  replace h := h.2
  refine R_aload_n dX8_readCoat_82 rfl ?_
  refine T8_get (x := σ_15.1 2) hT dX8_readCoat_83 fl8_179 ⟨by decide, rfl⟩ rfl ?_
  refine R_if_ne 99 dX8_readCoat_86 (by decide) (fun c19 => ?_) (fun c19 => ?_)
  · replace h := h.1 c19
    exact R_vret dX8_readCoat_99 rfl ⟨h.1.symm, by rw [h.2]⟩
  · replace h := h.2 c19
    refine R_aload_n dX8_readCoat_89 rfl ?_
    refine R_dup dX8_readCoat_90 rfl ?_
    refine T8_get (x := σ_15.1 42) hT dX8_readCoat_91 fl8_339 ⟨by decide, rfl⟩ rfl ?_
    refine R_iconst (v := 1) dX8_readCoat_94 (by decide) ?_
    refine R_iadd dX8_readCoat_95 ?_
    refine T8_put (σ9 := (upd σ_15.1 42 ((σ_15.1 42) + 1), upA σ_15.2.1 33 (upd (σ_15.2.1 33) (σ_11.1 42).toNatClampNeg r17), σ_15.2.2.1, σ_15.2.2.2)) hK hT dX8_readCoat_96 fl8_339 ft8_42 rfl rfl ⟨by decide, rfl⟩ rfl ?_
    exact R_vret dX8_readCoat_99 rfl ⟨h.1.symm, by rw [h.2]⟩
theorem g8_readMan_0 {d : Nat} {σ σ1 : S8} {r : Option Value} (h : ∃ σ_1 : S8, Tw8 mX8_newName (d + 5) [.int 0, .int (σ.1 41)] σ none σ_1 ∧ (∃ (r5 : Int32) (σ_3 : S8), Tw8 mX8_told (d + 5) [.long 1952541804, .int 99] σ_1 (some (.int r5)) σ_3 ∧ (vp_in (σ_1.1 41) 6 ∧ (∃ (r9 : Int32) (σ_7 : S8), Tw8 mX8_told (d + 5) [.long 2003395685, .int 99] (σ_3.1, upA σ_3.2.1 27 (upd (σ_3.2.1 27) (σ_1.1 41).toNatClampNeg r5), σ_3.2.2.1, σ_3.2.2.2) (some (.int r9)) σ_7 ∧ (vp_in (σ_3.1 41) 6 ∧ (∃ (r13 : Int32) (σ_11 : S8), Tw8 mX8_option (d + 5) [.long 444301539187, .int 9] (σ_7.1, upA σ_7.2.1 28 (upd (σ_7.2.1 28) (σ_3.1 41).toNatClampNeg r9), σ_7.2.2.1, σ_7.2.2.2) (some (.int r13)) σ_11 ∧ (vp_in (σ_7.1 41) 6 ∧ (((¬ (σ_11.1 2) = 0) → r = none ∧ σ1 = (σ_11.1, upA σ_11.2.1 29 (upd (σ_11.2.1 29) (σ_7.1 41).toNatClampNeg r13), σ_11.2.2.1, σ_11.2.2.2)) ∧ (((σ_11.1 2) = 0) → r = none ∧ σ1 = (upd σ_11.1 41 ((σ_11.1 41) + 1), upA σ_11.2.1 29 (upd (σ_11.2.1 29) (σ_7.1 41).toNatClampNeg r13), σ_11.2.2.1, σ_11.2.2.2)))))))))) : Rn8 mX8_readMan (d + 6) 0 [] (fun T => []) σ r σ1 := by
  intro G l T hp hK hT
  refine R_aload_n dX8_readMan_0 rfl ?_
  refine R_iconst (v := 0) dX8_readMan_1 (by decide) ?_
  refine R_aload_n dX8_readMan_2 rfl ?_
  refine T8_get (x := σ.1 41) hT dX8_readMan_3 fl8_330 ⟨by decide, rfl⟩ rfl ?_
  obtain ⟨σ_1, e2, h⟩ := h
  refine T8_call [.int 0, .int (σ.1 41)] hK hT dX8_readMan_6 cv8_333 rfl rfl rfl (Nat.le_of_ble_eq_true rfl) e2 ?_
  show RnH [] G l mX8_readMan (d + 6) (fun v hp1 => v = r ∧ hp1 = tw T σ1 hp) noX 9 (.ref T :: []) [] (tw T σ_1 hp) 0 0
  refine R_aload_n dX8_readMan_9 rfl ?_
  refine T8_geta hT dX8_readMan_10 fl8_42 ⟨by decide, by decide, by decide⟩ ?_
  refine R_aload_n dX8_readMan_13 rfl ?_
  refine T8_get (x := σ_1.1 41) hT dX8_readMan_14 fl8_330 ⟨by decide, rfl⟩ rfl ?_
  refine R_aload_n dX8_readMan_17 rfl ?_
  refine R_ldc2 dX8_readMan_18 q1724 ?_
  refine R_bipush (v := 99) dX8_readMan_21 (by decide) ?_
  obtain ⟨r5, σ_3, e4, h⟩ := h
  refine T8_call [.long 1952541804, .int 99] hK hT dX8_readMan_23 cv8_246 rfl rfl rfl (Nat.le_of_ble_eq_true rfl) e4 ?_
  show RnH [] G l mX8_readMan (d + 6) (fun v hp1 => v = r ∧ hp1 = tw T σ1 hp) noX 26 (.ref T :: []) [.int r5, .int (σ_1.1 41), .ref (a8 T 27)] (tw T σ_3 hp) 0 0
  have b6 := h.1
  refine T8_iast (σ9 := (σ_3.1, upA σ_3.2.1 27 (upd (σ_3.2.1 27) (σ_1.1 41).toNatClampNeg r5), σ_3.2.2.1, σ_3.2.2.2)) hK hT dX8_readMan_26 ⟨by decide, rfl⟩ b6 rfl ?_
  replace h := h.2
  refine R_aload_n dX8_readMan_27 rfl ?_
  refine T8_geta hT dX8_readMan_28 fl8_45 ⟨by decide, by decide, by decide⟩ ?_
  refine R_aload_n dX8_readMan_31 rfl ?_
  refine T8_get (x := σ_3.1 41) hT dX8_readMan_32 fl8_330 ⟨by decide, rfl⟩ rfl ?_
  refine R_aload_n dX8_readMan_35 rfl ?_
  refine R_ldc2 dX8_readMan_36 q1725 ?_
  refine R_bipush (v := 99) dX8_readMan_39 (by decide) ?_
  obtain ⟨r9, σ_7, e8, h⟩ := h
  refine T8_call [.long 2003395685, .int 99] hK hT dX8_readMan_41 cv8_246 rfl rfl rfl (Nat.le_of_ble_eq_true rfl) e8 ?_
  show RnH [] G l mX8_readMan (d + 6) (fun v hp1 => v = r ∧ hp1 = tw T σ1 hp) noX 44 (.ref T :: []) [.int r9, .int (σ_3.1 41), .ref (a8 T 28)] (tw T σ_7 hp) 0 0
  have b10 := h.1
  refine T8_iast (σ9 := (σ_7.1, upA σ_7.2.1 28 (upd (σ_7.2.1 28) (σ_3.1 41).toNatClampNeg r9), σ_7.2.2.1, σ_7.2.2.2)) hK hT dX8_readMan_44 ⟨by decide, rfl⟩ b10 rfl ?_
  replace h := h.2
  refine R_aload_n dX8_readMan_45 rfl ?_
  refine T8_geta hT dX8_readMan_46 fl8_48 ⟨by decide, by decide, by decide⟩ ?_
  refine R_aload_n dX8_readMan_49 rfl ?_
  refine T8_get (x := σ_7.1 41) hT dX8_readMan_50 fl8_330 ⟨by decide, rfl⟩ rfl ?_
  refine R_aload_n dX8_readMan_53 rfl ?_
  refine R_ldc2 dX8_readMan_54 q1726 ?_
  refine R_bipush (v := 9) dX8_readMan_57 (by decide) ?_
  obtain ⟨r13, σ_11, e12, h⟩ := h
  refine T8_call [.long 444301539187, .int 9] hK hT dX8_readMan_59 cv8_336 rfl rfl rfl (Nat.le_of_ble_eq_true rfl) e12 ?_
  show RnH [] G l mX8_readMan (d + 6) (fun v hp1 => v = r ∧ hp1 = tw T σ1 hp) noX 62 (.ref T :: []) [.int r13, .int (σ_7.1 41), .ref (a8 T 29)] (tw T σ_11 hp) 0 0
  have b14 := h.1
  refine T8_iast (σ9 := (σ_11.1, upA σ_11.2.1 29 (upd (σ_11.2.1 29) (σ_7.1 41).toNatClampNeg r13), σ_11.2.2.1, σ_11.2.2.2)) hK hT dX8_readMan_62 ⟨by decide, rfl⟩ b14 rfl ?_
  replace h := h.2
  refine R_aload_n dX8_readMan_63 rfl ?_
  refine T8_get (x := σ_11.1 2) hT dX8_readMan_64 fl8_179 ⟨by decide, rfl⟩ rfl ?_
  refine R_if_ne 80 dX8_readMan_67 (by decide) (fun c15 => ?_) (fun c15 => ?_)
  · replace h := h.1 c15
    exact R_vret dX8_readMan_80 rfl ⟨h.1.symm, by rw [h.2]⟩
  · replace h := h.2 c15
    refine R_aload_n dX8_readMan_70 rfl ?_
    refine R_dup dX8_readMan_71 rfl ?_
    refine T8_get (x := σ_11.1 41) hT dX8_readMan_72 fl8_330 ⟨by decide, rfl⟩ rfl ?_
    refine R_iconst (v := 1) dX8_readMan_75 (by decide) ?_
    refine R_iadd dX8_readMan_76 ?_
    refine T8_put (σ9 := (upd σ_11.1 41 ((σ_11.1 41) + 1), upA σ_11.2.1 29 (upd (σ_11.2.1 29) (σ_7.1 41).toNatClampNeg r13), σ_11.2.2.1, σ_11.2.2.2)) hK hT dX8_readMan_77 fl8_330 ft8_41 rfl rfl ⟨by decide, rfl⟩ rfl ?_
    exact R_vret dX8_readMan_80 rfl ⟨h.1.symm, by rw [h.2]⟩
theorem g8_sure_0 {d : Nat} {v1 : Int32} {v2 : Int32} {σ σ1 : S8} {r : Option Value} (h : (((s8_isIn v1 0 1) = 0) → r = some (.int (-1)) ∧ σ1 = σ) ∧ ((¬ (s8_isIn v1 0 1) = 0) → ∃ (r4 : Int32) (σ_2 : S8), Tw8 mX8_layGrowths (d + 5) [.int v2] σ (some (.int r4)) σ_2 ∧ (((¬ r4 = 0) → Rn8 mX8_sure (d + 6) 24 [.int v1, .int v2, .int (-1), .int 0] (fun T => []) σ_2 r σ1) ∧ ((r4 = 0) → r = some (.int (-1)) ∧ σ1 = σ_2)))) : Rn8 mX8_sure (d + 6) 0 [.int v1, .int v2, U_, U_] (fun T => []) σ r σ1 := by
  intro G l T hp hK hT
  refine R_iload_n dX8_sure_0 rfl ?_
  refine R_iconst (v := 0) dX8_sure_1 (by decide) ?_
  refine R_iconst (v := 1) dX8_sure_2 (by decide) ?_
  refine T8_callS [.int v1, .int 0, .int 1] dX8_sure_3 cs8_417 rfl rfl (Nat.le_of_ble_eq_true rfl) (st8_isIn (d + 4) v1 0 1) ?_
  show RnH [] G l mX8_sure (d + 6) (fun v hp1 => v = r ∧ hp1 = tw T σ1 hp) noX 6 (.ref T :: [.int v1, .int v2, U_, U_]) [.int (s8_isIn v1 0 1)] (tw T σ hp) 0 0
  refine R_if_eq 17 dX8_sure_6 (by decide) (fun c1 => ?_) (fun c1 => ?_)
  · replace h := h.1 c1
    refine R_iconst (v := (-1)) dX8_sure_17 (by decide) ?_
    exact R_iret dX8_sure_18 rfl rfl ⟨h.1.symm, by rw [h.2]⟩
  · replace h := h.2 c1
    refine R_aload_n dX8_sure_9 rfl ?_
    refine R_iload_n dX8_sure_10 rfl ?_
    obtain ⟨r4, σ_2, e3, h⟩ := h
    refine T8_call [.int v2] hK hT dX8_sure_11 cv8_534 rfl rfl rfl (Nat.le_of_ble_eq_true rfl) e3 ?_
    show RnH [] G l mX8_sure (d + 6) (fun v hp1 => v = r ∧ hp1 = tw T σ1 hp) noX 14 (.ref T :: [.int v1, .int v2, U_, U_]) [.int r4] (tw T σ_2 hp) 0 0
    refine R_if_ne 19 dX8_sure_14 (by decide) (fun c5 => ?_) (fun c5 => ?_)
    · replace h := h.1 c5
      refine R_iconst (v := (-1)) dX8_sure_19 (by decide) ?_
      refine S_istore_n (ls1 := .ref T :: [.int v1, .int v2, .int (-1), U_]) dX8_sure_20 (by decide) rfl rfl ?_
      refine R_iconst (v := 0) dX8_sure_21 (by decide) ?_
      refine S_istore (ls1 := .ref T :: [.int v1, .int v2, .int (-1), .int 0]) dX8_sure_22 (by decide) rfl rfl ?_
      exact h G l T hp hK hT
    · replace h := h.2 c5
      refine R_iconst (v := (-1)) dX8_sure_17 (by decide) ?_
      exact R_iret dX8_sure_18 rfl rfl ⟨h.1.symm, by rw [h.2]⟩
theorem g8_sure_24 {d : Nat} {v1 : Int32} {v2 : Int32} {v3 : Int32} {v4 : Int32} {σ σ1 : S8} {r : Option Value} (h : ((30 < v4) → r = some (.int v3) ∧ σ1 = σ) ∧ ((¬ 30 < v4) → vp_in v4 31 ∧ ((((σ.2.1 76 v4.toNatClampNeg) = 0) → Rn8 mX8_sure (d + 6) 24 [.int v1, .int v2, .int v3, .int (v4 + 1)] (fun T => []) σ r σ1) ∧ ((¬ (σ.2.1 76 v4.toNatClampNeg) = 0) → ((v3 < 0) → Rn8 mX8_sure (d + 6) 24 [.int v1, .int v2, .int v4, .int (v4 + 1)] (fun T => []) σ r σ1) ∧ ((¬ v3 < 0) → ((¬ v1 = 1) → Rn8 mX8_sure (d + 6) 24 [.int v1, .int v2, .int v3, .int (v4 + 1)] (fun T => []) σ r σ1) ∧ ((v1 = 1) → Rn8 mX8_sure (d + 6) 24 [.int v1, .int v2, .int v4, .int (v4 + 1)] (fun T => []) σ r σ1)))))) : Rn8 mX8_sure (d + 6) 24 [.int v1, .int v2, .int v3, .int v4] (fun T => []) σ r σ1 := by
  intro G l T hp hK hT
  refine R_iload dX8_sure_24 rfl ?_
  refine R_bipush (v := 30) dX8_sure_26 (by decide) ?_
  refine R_icmp_gt 59 dX8_sure_28 (by decide) (fun c1 => ?_) (fun c1 => ?_)
  · replace h := h.1 c1
    refine R_iload_n dX8_sure_59 rfl ?_
    exact R_iret dX8_sure_60 rfl rfl ⟨h.1.symm, by rw [h.2]⟩
  · replace h := h.2 c1
    refine R_aload_n dX8_sure_31 rfl ?_
    refine T8_geta hT dX8_sure_32 fl8_130 ⟨by decide, by decide, by decide⟩ ?_
    refine R_iload dX8_sure_35 rfl ?_
    have b2 := h.1
    replace h := h.2
    refine T8_zald (x := σ.2.1 76 v4.toNatClampNeg) hT dX8_sure_37 ⟨by decide, rfl⟩ b2 rfl ?_
    refine R_if_eq 53 dX8_sure_38 (by decide) (fun c3 => ?_) (fun c3 => ?_)
    · replace h := h.1 c3
      refine S_iinc (v := v4 + 1) (ls1 := .ref T :: [.int v1, .int v2, .int v3, .int (v4 + 1)]) dX8_sure_53 rfl rfl (by decide) rfl rfl ?_
      refine R_goto 24 dX8_sure_56 (by decide) ?_
      exact h G l T hp hK hT
    · replace h := h.2 c3
      refine R_iload_n dX8_sure_41 rfl ?_
      refine R_if_lt 50 dX8_sure_42 (by decide) (fun c4 => ?_) (fun c4 => ?_)
      · replace h := h.1 c4
        refine R_iload dX8_sure_50 rfl ?_
        refine S_istore_n (ls1 := .ref T :: [.int v1, .int v2, .int v4, .int v4]) dX8_sure_52 (by decide) rfl rfl ?_
        refine S_iinc (v := v4 + 1) (ls1 := .ref T :: [.int v1, .int v2, .int v4, .int (v4 + 1)]) dX8_sure_53 rfl rfl (by decide) rfl rfl ?_
        refine R_goto 24 dX8_sure_56 (by decide) ?_
        exact h G l T hp hK hT
      · replace h := h.2 c4
        refine R_iload_n dX8_sure_45 rfl ?_
        refine R_iconst (v := 1) dX8_sure_46 (by decide) ?_
        refine R_icmp_ne 53 dX8_sure_47 (by decide) (fun c5 => ?_) (fun c5 => ?_)
        · replace h := h.1 c5
          refine S_iinc (v := v4 + 1) (ls1 := .ref T :: [.int v1, .int v2, .int v3, .int (v4 + 1)]) dX8_sure_53 rfl rfl (by decide) rfl rfl ?_
          refine R_goto 24 dX8_sure_56 (by decide) ?_
          exact h G l T hp hK hT
        · replace h := h.2 c5
          refine R_iload dX8_sure_50 rfl ?_
          refine S_istore_n (ls1 := .ref T :: [.int v1, .int v2, .int v4, .int v4]) dX8_sure_52 (by decide) rfl rfl ?_
          refine S_iinc (v := v4 + 1) (ls1 := .ref T :: [.int v1, .int v2, .int v4, .int (v4 + 1)]) dX8_sure_53 rfl rfl (by decide) rfl rfl ?_
          refine R_goto 24 dX8_sure_56 (by decide) ?_
          exact h G l T hp hK hT
theorem g8_fitted_0 {d : Nat} {σ σ1 : S8} {r : Option Value} (h : ∃ σ_1 : S8, Tw8 mX8_fill (d + 6) [] σ none σ_1 ∧ (∃ (r5 : Int32) (σ_3 : S8), Tw8 mX8_fittedOnes (d + 6) [] σ_1 (some (.int r5)) σ_3 ∧ (r = some (.int r5) ∧ σ1 = σ_3))) : Rn8 mX8_fitted (d + 7) 0 [] (fun T => []) σ r σ1 := by
  intro G l T hp hK hT
  refine R_aload_n dX8_fitted_0 rfl ?_
  obtain ⟨σ_1, e2, h⟩ := h
  refine T8_call [] hK hT dX8_fitted_1 cv8_449 rfl rfl rfl (Nat.le_of_ble_eq_true rfl) e2 ?_
  show RnH [] G l mX8_fitted (d + 7) (fun v hp1 => v = r ∧ hp1 = tw T σ1 hp) noX 4 (.ref T :: []) [] (tw T σ_1 hp) 0 0
  refine R_aload_n dX8_fitted_4 rfl ?_
  obtain ⟨r5, σ_3, e4, h⟩ := h
  refine T8_call [] hK hT dX8_fitted_5 cv8_443 rfl rfl rfl (Nat.le_of_ble_eq_true rfl) e4 ?_
  show RnH [] G l mX8_fitted (d + 7) (fun v hp1 => v = r ∧ hp1 = tw T σ1 hp) noX 8 (.ref T :: []) [.int r5] (tw T σ_3 hp) 0 0
  exact R_iret dX8_fitted_8 rfl rfl ⟨h.1.symm, by rw [h.2]⟩
theorem g8_goDay_0 {d : Nat} {v1 : Int32} {σ σ1 : S8} {r : Option Value} (h : Rn8 mX8_goDay (d + 7) 2 [.int v1, .int 0, U_] (fun T => []) σ r σ1) : Rn8 mX8_goDay (d + 7) 0 [.int v1, U_, U_] (fun T => []) σ r σ1 := by
  intro G l T hp hK hT
  refine R_iconst (v := 0) dX8_goDay_0 (by decide) ?_
  refine S_istore_n (ls1 := .ref T :: [.int v1, .int 0, U_]) dX8_goDay_1 (by decide) rfl rfl ?_
  exact h G l T hp hK hT
theorem g8_goDay_2 {d : Nat} {v1 : Int32} {v2 : Int32} {σ σ1 : S8} {r : Option Value} (h : (((σ.1 48) ≤ v2) → Rn8 mX8_goDay (d + 7) 42 [.int v1, .int 0, U_] (fun T => []) σ r σ1) ∧ ((¬ (σ.1 48) ≤ v2) → vp_in v2 39 ∧ (vp_in v2 6 ∧ (Rn8 mX8_goDay (d + 7) 2 [.int v1, .int (v2 + 1), U_] (fun T => []) (σ.1, upA σ.2.1 60 (upd (σ.2.1 60) v2.toNatClampNeg (s8_lesser 99 ((σ.2.1 60 v2.toNatClampNeg) + (σ.2.1 36 v2.toNatClampNeg)))), σ.2.2.1, σ.2.2.2) r σ1)))) : Rn8 mX8_goDay (d + 7) 2 [.int v1, .int v2, U_] (fun T => []) σ r σ1 := by
  intro G l T hp hK hT
  refine R_iload_n dX8_goDay_2 rfl ?_
  refine R_aload_n dX8_goDay_3 rfl ?_
  refine T8_get (x := σ.1 48) hT dX8_goDay_4 fl8_387 ⟨by decide, rfl⟩ rfl ?_
  refine R_icmp_ge 40 dX8_goDay_7 (by decide) (fun c1 => ?_) (fun c1 => ?_)
  · replace h := h.1 c1
    refine R_iconst (v := 0) dX8_goDay_40 (by decide) ?_
    refine S_istore_n (ls1 := .ref T :: [.int v1, .int 0, U_]) dX8_goDay_41 (by decide) rfl rfl ?_
    exact h G l T hp hK hT
  · replace h := h.2 c1
    refine R_aload_n dX8_goDay_10 rfl ?_
    refine T8_geta hT dX8_goDay_11 fl8_96 ⟨by decide, by decide, by decide⟩ ?_
    refine R_iload_n dX8_goDay_14 rfl ?_
    refine R_bipush (v := 99) dX8_goDay_15 (by decide) ?_
    refine R_aload_n dX8_goDay_17 rfl ?_
    refine T8_geta hT dX8_goDay_18 fl8_96 ⟨by decide, by decide, by decide⟩ ?_
    refine R_iload_n dX8_goDay_21 rfl ?_
    have b2 := h.1
    replace h := h.2
    refine T8_iald (x := σ.2.1 60 v2.toNatClampNeg) hT dX8_goDay_22 ⟨by decide, rfl⟩ b2 rfl ?_
    refine R_aload_n dX8_goDay_23 rfl ?_
    refine T8_geta hT dX8_goDay_24 fl8_69 ⟨by decide, by decide, by decide⟩ ?_
    refine R_iload_n dX8_goDay_27 rfl ?_
    have b3 := h.1
    replace h := h.2
    refine T8_iald (x := σ.2.1 36 v2.toNatClampNeg) hT dX8_goDay_28 ⟨by decide, rfl⟩ b3 rfl ?_
    refine R_iadd dX8_goDay_29 ?_
    refine T8_callS [.int 99, .int ((σ.2.1 60 v2.toNatClampNeg) + (σ.2.1 36 v2.toNatClampNeg))] dX8_goDay_30 cs8_431 rfl rfl (Nat.le_of_ble_eq_true rfl) (st8_lesser (d + 5) 99 ((σ.2.1 60 v2.toNatClampNeg) + (σ.2.1 36 v2.toNatClampNeg))) ?_
    show RnH [] G l mX8_goDay (d + 7) (fun v hp1 => v = r ∧ hp1 = tw T σ1 hp) noX 33 (.ref T :: [.int v1, .int v2, U_]) [.int (s8_lesser 99 ((σ.2.1 60 v2.toNatClampNeg) + (σ.2.1 36 v2.toNatClampNeg))), .int v2, .ref (a8 T 60)] (tw T σ hp) 0 0
    refine T8_iast (σ9 := (σ.1, upA σ.2.1 60 (upd (σ.2.1 60) v2.toNatClampNeg (s8_lesser 99 ((σ.2.1 60 v2.toNatClampNeg) + (σ.2.1 36 v2.toNatClampNeg)))), σ.2.2.1, σ.2.2.2)) hK hT dX8_goDay_33 ⟨by decide, rfl⟩ b2 rfl ?_
    refine S_iinc (v := v2 + 1) (ls1 := .ref T :: [.int v1, .int (v2 + 1), U_]) dX8_goDay_34 rfl rfl (by decide) rfl rfl ?_
    refine R_goto 2 dX8_goDay_37 (by decide) ?_
    exact h G l T hp hK hT
theorem g8_goDay_42 {d : Nat} {v1 : Int32} {v2 : Int32} {σ σ1 : S8} {r : Option Value} (h : (((σ.1 49) ≤ v2) → ∃ (r4 : Int32) (σ_2 : S8), Tw8 mX8_wearers (d + 6) [] (σ.1, upA σ.2.1 60 (upd (σ.2.1 60) 37 ((σ.2.1 60 37) + 1)), σ.2.2.1, σ.2.2.2) (some (.int r4)) σ_2 ∧ (∃ (r7 : Int32) (σ_5 : S8), Tw8 mX8_fittedOnes (d + 6) [] σ_2 (some (.int r7)) σ_5 ∧ (Rn8 mX8_goDay (d + 7) 171 [.int v1, .int (r4 &&& (r7 ^^^ (-1))), .int 0] (fun T => []) σ_5 r σ1))) ∧ ((¬ (σ.1 49) ≤ v2) → ∃ (r10 : Int32) (σ_8 : S8), Tw8 mX8_wearer (d + 6) [.int v2] σ (some (.int r10)) σ_8 ∧ (((0 ≤ r10) → vp_in (30 + v2) 39 ∧ (vp_in (12 + v2) 39 ∧ (vp_in (18 + v2) 39 ∧ (Rn8 mX8_goDay (d + 7) 42 [.int v1, .int (v2 + 1), U_] (fun T => []) (σ_8.1, upA σ_8.2.1 60 (upd (upd (upd (σ_8.2.1 60) (30 + v2).toNatClampNeg (s8_lesser 99 ((σ_8.2.1 60 (30 + v2).toNatClampNeg) + 1))) (12 + v2).toNatClampNeg (s8_greater 0 (((upd (σ_8.2.1 60) (30 + v2).toNatClampNeg (s8_lesser 99 ((σ_8.2.1 60 (30 + v2).toNatClampNeg) + 1))) (12 + v2).toNatClampNeg) - (s8_truth v1)))) (18 + v2).toNatClampNeg (s8_greater 0 (((upd (upd (σ_8.2.1 60) (30 + v2).toNatClampNeg (s8_lesser 99 ((σ_8.2.1 60 (30 + v2).toNatClampNeg) + 1))) (12 + v2).toNatClampNeg (s8_greater 0 (((upd (σ_8.2.1 60) (30 + v2).toNatClampNeg (s8_lesser 99 ((σ_8.2.1 60 (30 + v2).toNatClampNeg) + 1))) (12 + v2).toNatClampNeg) - (s8_truth v1)))) (18 + v2).toNatClampNeg) - (s8_truth v1)))), σ_8.2.2.1, σ_8.2.2.2) r σ1)))) ∧ ((¬ 0 ≤ r10) → Rn8 mX8_goDay (d + 7) 42 [.int v1, .int (v2 + 1), U_] (fun T => []) σ_8 r σ1)))) : Rn8 mX8_goDay (d + 7) 42 [.int v1, .int v2, U_] (fun T => []) σ r σ1 := by
  intro G l T hp hK hT
  refine R_iload_n dX8_goDay_42 rfl ?_
  refine R_aload_n dX8_goDay_43 rfl ?_
  refine T8_get (x := σ.1 49) hT dX8_goDay_44 fl8_390 ⟨by decide, rfl⟩ rfl ?_
  refine R_icmp_ge 146 dX8_goDay_47 (by decide) (fun c1 => ?_) (fun c1 => ?_)
  · replace h := h.1 c1
    refine R_aload_n dX8_goDay_146 rfl ?_
    refine T8_geta hT dX8_goDay_147 fl8_96 ⟨by decide, by decide, by decide⟩ ?_
    refine R_bipush (v := 37) dX8_goDay_150 (by decide) ?_
    refine R_dup2 dX8_goDay_152 rfl rfl ?_
    refine T8_iald (x := σ.2.1 60 37) hT dX8_goDay_153 ⟨by decide, rfl⟩ (by unfold vp_in; decide) rfl ?_
    refine R_iconst (v := 1) dX8_goDay_154 (by decide) ?_
    refine R_iadd dX8_goDay_155 ?_
    refine T8_iast (σ9 := (σ.1, upA σ.2.1 60 (upd (σ.2.1 60) 37 ((σ.2.1 60 37) + 1)), σ.2.2.1, σ.2.2.2)) hK hT dX8_goDay_156 ⟨by decide, rfl⟩ (by unfold vp_in; decide) rfl ?_
    refine R_aload_n dX8_goDay_157 rfl ?_
    obtain ⟨r4, σ_2, e3, h⟩ := h
    refine T8_call [] hK hT dX8_goDay_158 cv8_440 rfl rfl rfl (Nat.le_of_ble_eq_true rfl) e3 ?_
    show RnH [] G l mX8_goDay (d + 7) (fun v hp1 => v = r ∧ hp1 = tw T σ1 hp) noX 161 (.ref T :: [.int v1, .int v2, U_]) [.int r4] (tw T σ_2 hp) 0 0
    refine R_aload_n dX8_goDay_161 rfl ?_
    obtain ⟨r7, σ_5, e6, h⟩ := h
    refine T8_call [] hK hT dX8_goDay_162 cv8_443 rfl rfl rfl (Nat.le_of_ble_eq_true rfl) e6 ?_
    show RnH [] G l mX8_goDay (d + 7) (fun v hp1 => v = r ∧ hp1 = tw T σ1 hp) noX 165 (.ref T :: [.int v1, .int v2, U_]) [.int r7, .int r4] (tw T σ_5 hp) 0 0
    refine R_iconst (v := (-1)) dX8_goDay_165 (by decide) ?_
    refine R_ixor dX8_goDay_166 ?_
    refine R_iand dX8_goDay_167 ?_
    refine S_istore_n (ls1 := .ref T :: [.int v1, .int (r4 &&& (r7 ^^^ (-1))), U_]) dX8_goDay_168 (by decide) rfl rfl ?_
    refine R_iconst (v := 0) dX8_goDay_169 (by decide) ?_
    refine S_istore_n (ls1 := .ref T :: [.int v1, .int (r4 &&& (r7 ^^^ (-1))), .int 0]) dX8_goDay_170 (by decide) rfl rfl ?_
    exact h G l T hp hK hT
  · replace h := h.2 c1
    refine R_aload_n dX8_goDay_50 rfl ?_
    refine R_iload_n dX8_goDay_51 rfl ?_
    obtain ⟨r10, σ_8, e9, h⟩ := h
    refine T8_call [.int v2] hK hT dX8_goDay_52 cv8_434 rfl rfl rfl (Nat.le_of_ble_eq_true rfl) e9 ?_
    show RnH [] G l mX8_goDay (d + 7) (fun v hp1 => v = r ∧ hp1 = tw T σ1 hp) noX 55 (.ref T :: [.int v1, .int v2, U_]) [.int r10] (tw T σ_8 hp) 0 0
    refine R_if_ge 61 dX8_goDay_55 (by decide) (fun c11 => ?_) (fun c11 => ?_)
    · replace h := h.1 c11
      refine R_aload_n dX8_goDay_61 rfl ?_
      refine T8_geta hT dX8_goDay_62 fl8_96 ⟨by decide, by decide, by decide⟩ ?_
      refine R_bipush (v := 30) dX8_goDay_65 (by decide) ?_
      refine R_iload_n dX8_goDay_67 rfl ?_
      refine R_iadd dX8_goDay_68 ?_
      refine R_bipush (v := 99) dX8_goDay_69 (by decide) ?_
      refine R_aload_n dX8_goDay_71 rfl ?_
      refine T8_geta hT dX8_goDay_72 fl8_96 ⟨by decide, by decide, by decide⟩ ?_
      refine R_bipush (v := 30) dX8_goDay_75 (by decide) ?_
      refine R_iload_n dX8_goDay_77 rfl ?_
      refine R_iadd dX8_goDay_78 ?_
      have b12 := h.1
      replace h := h.2
      refine T8_iald (x := σ_8.2.1 60 (30 + v2).toNatClampNeg) hT dX8_goDay_79 ⟨by decide, rfl⟩ b12 rfl ?_
      refine R_iconst (v := 1) dX8_goDay_80 (by decide) ?_
      refine R_iadd dX8_goDay_81 ?_
      refine T8_callS [.int 99, .int ((σ_8.2.1 60 (30 + v2).toNatClampNeg) + 1)] dX8_goDay_82 cs8_431 rfl rfl (Nat.le_of_ble_eq_true rfl) (st8_lesser (d + 5) 99 ((σ_8.2.1 60 (30 + v2).toNatClampNeg) + 1)) ?_
      show RnH [] G l mX8_goDay (d + 7) (fun v hp1 => v = r ∧ hp1 = tw T σ1 hp) noX 85 (.ref T :: [.int v1, .int v2, U_]) [.int (s8_lesser 99 ((σ_8.2.1 60 (30 + v2).toNatClampNeg) + 1)), .int (30 + v2), .ref (a8 T 60)] (tw T σ_8 hp) 0 0
      refine T8_iast (σ9 := (σ_8.1, upA σ_8.2.1 60 (upd (σ_8.2.1 60) (30 + v2).toNatClampNeg (s8_lesser 99 ((σ_8.2.1 60 (30 + v2).toNatClampNeg) + 1))), σ_8.2.2.1, σ_8.2.2.2)) hK hT dX8_goDay_85 ⟨by decide, rfl⟩ b12 rfl ?_
      refine R_aload_n dX8_goDay_86 rfl ?_
      refine T8_geta hT dX8_goDay_87 fl8_96 ⟨by decide, by decide, by decide⟩ ?_
      refine R_bipush (v := 12) dX8_goDay_90 (by decide) ?_
      refine R_iload_n dX8_goDay_92 rfl ?_
      refine R_iadd dX8_goDay_93 ?_
      refine R_iconst (v := 0) dX8_goDay_94 (by decide) ?_
      refine R_aload_n dX8_goDay_95 rfl ?_
      refine T8_geta hT dX8_goDay_96 fl8_96 ⟨by decide, by decide, by decide⟩ ?_
      refine R_bipush (v := 12) dX8_goDay_99 (by decide) ?_
      refine R_iload_n dX8_goDay_101 rfl ?_
      refine R_iadd dX8_goDay_102 ?_
      have b13 := h.1
      replace h := h.2
      refine T8_iald (x := (upd (σ_8.2.1 60) (30 + v2).toNatClampNeg (s8_lesser 99 ((σ_8.2.1 60 (30 + v2).toNatClampNeg) + 1))) (12 + v2).toNatClampNeg) hT dX8_goDay_103 ⟨by decide, rfl⟩ b13 rfl ?_
      refine R_iload_n dX8_goDay_104 rfl ?_
      refine T8_callS [.int v1] dX8_goDay_105 cs8_310 rfl rfl (Nat.le_of_ble_eq_true rfl) (st8_truth (d + 5) v1) ?_
      show RnH [] G l mX8_goDay (d + 7) (fun v hp1 => v = r ∧ hp1 = tw T σ1 hp) noX 108 (.ref T :: [.int v1, .int v2, U_]) [.int (s8_truth v1), .int ((upd (σ_8.2.1 60) (30 + v2).toNatClampNeg (s8_lesser 99 ((σ_8.2.1 60 (30 + v2).toNatClampNeg) + 1))) (12 + v2).toNatClampNeg), .int 0, .int (12 + v2), .ref (a8 T 60)] (tw T (σ_8.1, upA σ_8.2.1 60 (upd (σ_8.2.1 60) (30 + v2).toNatClampNeg (s8_lesser 99 ((σ_8.2.1 60 (30 + v2).toNatClampNeg) + 1))), σ_8.2.2.1, σ_8.2.2.2) hp) 0 0
      refine R_isub dX8_goDay_108 ?_
      refine T8_callS [.int 0, .int (((upd (σ_8.2.1 60) (30 + v2).toNatClampNeg (s8_lesser 99 ((σ_8.2.1 60 (30 + v2).toNatClampNeg) + 1))) (12 + v2).toNatClampNeg) - (s8_truth v1))] dX8_goDay_109 cs8_437 rfl rfl (Nat.le_of_ble_eq_true rfl) (st8_greater (d + 5) 0 (((upd (σ_8.2.1 60) (30 + v2).toNatClampNeg (s8_lesser 99 ((σ_8.2.1 60 (30 + v2).toNatClampNeg) + 1))) (12 + v2).toNatClampNeg) - (s8_truth v1))) ?_
      show RnH [] G l mX8_goDay (d + 7) (fun v hp1 => v = r ∧ hp1 = tw T σ1 hp) noX 112 (.ref T :: [.int v1, .int v2, U_]) [.int (s8_greater 0 (((upd (σ_8.2.1 60) (30 + v2).toNatClampNeg (s8_lesser 99 ((σ_8.2.1 60 (30 + v2).toNatClampNeg) + 1))) (12 + v2).toNatClampNeg) - (s8_truth v1))), .int (12 + v2), .ref (a8 T 60)] (tw T (σ_8.1, upA σ_8.2.1 60 (upd (σ_8.2.1 60) (30 + v2).toNatClampNeg (s8_lesser 99 ((σ_8.2.1 60 (30 + v2).toNatClampNeg) + 1))), σ_8.2.2.1, σ_8.2.2.2) hp) 0 0
      refine T8_iast (σ9 := (σ_8.1, upA σ_8.2.1 60 (upd (upd (σ_8.2.1 60) (30 + v2).toNatClampNeg (s8_lesser 99 ((σ_8.2.1 60 (30 + v2).toNatClampNeg) + 1))) (12 + v2).toNatClampNeg (s8_greater 0 (((upd (σ_8.2.1 60) (30 + v2).toNatClampNeg (s8_lesser 99 ((σ_8.2.1 60 (30 + v2).toNatClampNeg) + 1))) (12 + v2).toNatClampNeg) - (s8_truth v1)))), σ_8.2.2.1, σ_8.2.2.2)) hK hT dX8_goDay_112 ⟨by decide, rfl⟩ b13 (up9 σ_8.1 σ_8.2.1 60 (upd (σ_8.2.1 60) (30 + v2).toNatClampNeg (s8_lesser 99 ((σ_8.2.1 60 (30 + v2).toNatClampNeg) + 1))) (upd (upd (σ_8.2.1 60) (30 + v2).toNatClampNeg (s8_lesser 99 ((σ_8.2.1 60 (30 + v2).toNatClampNeg) + 1))) (12 + v2).toNatClampNeg (s8_greater 0 (((upd (σ_8.2.1 60) (30 + v2).toNatClampNeg (s8_lesser 99 ((σ_8.2.1 60 (30 + v2).toNatClampNeg) + 1))) (12 + v2).toNatClampNeg) - (s8_truth v1)))) σ_8.2.2.1 σ_8.2.2.2) ?_
      refine R_aload_n dX8_goDay_113 rfl ?_
      refine T8_geta hT dX8_goDay_114 fl8_96 ⟨by decide, by decide, by decide⟩ ?_
      refine R_bipush (v := 18) dX8_goDay_117 (by decide) ?_
      refine R_iload_n dX8_goDay_119 rfl ?_
      refine R_iadd dX8_goDay_120 ?_
      refine R_iconst (v := 0) dX8_goDay_121 (by decide) ?_
      refine R_aload_n dX8_goDay_122 rfl ?_
      refine T8_geta hT dX8_goDay_123 fl8_96 ⟨by decide, by decide, by decide⟩ ?_
      refine R_bipush (v := 18) dX8_goDay_126 (by decide) ?_
      refine R_iload_n dX8_goDay_128 rfl ?_
      refine R_iadd dX8_goDay_129 ?_
      have b14 := h.1
      replace h := h.2
      refine T8_iald (x := (upd (upd (σ_8.2.1 60) (30 + v2).toNatClampNeg (s8_lesser 99 ((σ_8.2.1 60 (30 + v2).toNatClampNeg) + 1))) (12 + v2).toNatClampNeg (s8_greater 0 (((upd (σ_8.2.1 60) (30 + v2).toNatClampNeg (s8_lesser 99 ((σ_8.2.1 60 (30 + v2).toNatClampNeg) + 1))) (12 + v2).toNatClampNeg) - (s8_truth v1)))) (18 + v2).toNatClampNeg) hT dX8_goDay_130 ⟨by decide, rfl⟩ b14 rfl ?_
      refine R_iload_n dX8_goDay_131 rfl ?_
      refine T8_callS [.int v1] dX8_goDay_132 cs8_310 rfl rfl (Nat.le_of_ble_eq_true rfl) (st8_truth (d + 5) v1) ?_
      show RnH [] G l mX8_goDay (d + 7) (fun v hp1 => v = r ∧ hp1 = tw T σ1 hp) noX 135 (.ref T :: [.int v1, .int v2, U_]) [.int (s8_truth v1), .int ((upd (upd (σ_8.2.1 60) (30 + v2).toNatClampNeg (s8_lesser 99 ((σ_8.2.1 60 (30 + v2).toNatClampNeg) + 1))) (12 + v2).toNatClampNeg (s8_greater 0 (((upd (σ_8.2.1 60) (30 + v2).toNatClampNeg (s8_lesser 99 ((σ_8.2.1 60 (30 + v2).toNatClampNeg) + 1))) (12 + v2).toNatClampNeg) - (s8_truth v1)))) (18 + v2).toNatClampNeg), .int 0, .int (18 + v2), .ref (a8 T 60)] (tw T (σ_8.1, upA σ_8.2.1 60 (upd (upd (σ_8.2.1 60) (30 + v2).toNatClampNeg (s8_lesser 99 ((σ_8.2.1 60 (30 + v2).toNatClampNeg) + 1))) (12 + v2).toNatClampNeg (s8_greater 0 (((upd (σ_8.2.1 60) (30 + v2).toNatClampNeg (s8_lesser 99 ((σ_8.2.1 60 (30 + v2).toNatClampNeg) + 1))) (12 + v2).toNatClampNeg) - (s8_truth v1)))), σ_8.2.2.1, σ_8.2.2.2) hp) 0 0
      refine R_isub dX8_goDay_135 ?_
      refine T8_callS [.int 0, .int (((upd (upd (σ_8.2.1 60) (30 + v2).toNatClampNeg (s8_lesser 99 ((σ_8.2.1 60 (30 + v2).toNatClampNeg) + 1))) (12 + v2).toNatClampNeg (s8_greater 0 (((upd (σ_8.2.1 60) (30 + v2).toNatClampNeg (s8_lesser 99 ((σ_8.2.1 60 (30 + v2).toNatClampNeg) + 1))) (12 + v2).toNatClampNeg) - (s8_truth v1)))) (18 + v2).toNatClampNeg) - (s8_truth v1))] dX8_goDay_136 cs8_437 rfl rfl (Nat.le_of_ble_eq_true rfl) (st8_greater (d + 5) 0 (((upd (upd (σ_8.2.1 60) (30 + v2).toNatClampNeg (s8_lesser 99 ((σ_8.2.1 60 (30 + v2).toNatClampNeg) + 1))) (12 + v2).toNatClampNeg (s8_greater 0 (((upd (σ_8.2.1 60) (30 + v2).toNatClampNeg (s8_lesser 99 ((σ_8.2.1 60 (30 + v2).toNatClampNeg) + 1))) (12 + v2).toNatClampNeg) - (s8_truth v1)))) (18 + v2).toNatClampNeg) - (s8_truth v1))) ?_
      show RnH [] G l mX8_goDay (d + 7) (fun v hp1 => v = r ∧ hp1 = tw T σ1 hp) noX 139 (.ref T :: [.int v1, .int v2, U_]) [.int (s8_greater 0 (((upd (upd (σ_8.2.1 60) (30 + v2).toNatClampNeg (s8_lesser 99 ((σ_8.2.1 60 (30 + v2).toNatClampNeg) + 1))) (12 + v2).toNatClampNeg (s8_greater 0 (((upd (σ_8.2.1 60) (30 + v2).toNatClampNeg (s8_lesser 99 ((σ_8.2.1 60 (30 + v2).toNatClampNeg) + 1))) (12 + v2).toNatClampNeg) - (s8_truth v1)))) (18 + v2).toNatClampNeg) - (s8_truth v1))), .int (18 + v2), .ref (a8 T 60)] (tw T (σ_8.1, upA σ_8.2.1 60 (upd (upd (σ_8.2.1 60) (30 + v2).toNatClampNeg (s8_lesser 99 ((σ_8.2.1 60 (30 + v2).toNatClampNeg) + 1))) (12 + v2).toNatClampNeg (s8_greater 0 (((upd (σ_8.2.1 60) (30 + v2).toNatClampNeg (s8_lesser 99 ((σ_8.2.1 60 (30 + v2).toNatClampNeg) + 1))) (12 + v2).toNatClampNeg) - (s8_truth v1)))), σ_8.2.2.1, σ_8.2.2.2) hp) 0 0
      refine T8_iast (σ9 := (σ_8.1, upA σ_8.2.1 60 (upd (upd (upd (σ_8.2.1 60) (30 + v2).toNatClampNeg (s8_lesser 99 ((σ_8.2.1 60 (30 + v2).toNatClampNeg) + 1))) (12 + v2).toNatClampNeg (s8_greater 0 (((upd (σ_8.2.1 60) (30 + v2).toNatClampNeg (s8_lesser 99 ((σ_8.2.1 60 (30 + v2).toNatClampNeg) + 1))) (12 + v2).toNatClampNeg) - (s8_truth v1)))) (18 + v2).toNatClampNeg (s8_greater 0 (((upd (upd (σ_8.2.1 60) (30 + v2).toNatClampNeg (s8_lesser 99 ((σ_8.2.1 60 (30 + v2).toNatClampNeg) + 1))) (12 + v2).toNatClampNeg (s8_greater 0 (((upd (σ_8.2.1 60) (30 + v2).toNatClampNeg (s8_lesser 99 ((σ_8.2.1 60 (30 + v2).toNatClampNeg) + 1))) (12 + v2).toNatClampNeg) - (s8_truth v1)))) (18 + v2).toNatClampNeg) - (s8_truth v1)))), σ_8.2.2.1, σ_8.2.2.2)) hK hT dX8_goDay_139 ⟨by decide, rfl⟩ b14 (up9 σ_8.1 σ_8.2.1 60 (upd (upd (σ_8.2.1 60) (30 + v2).toNatClampNeg (s8_lesser 99 ((σ_8.2.1 60 (30 + v2).toNatClampNeg) + 1))) (12 + v2).toNatClampNeg (s8_greater 0 (((upd (σ_8.2.1 60) (30 + v2).toNatClampNeg (s8_lesser 99 ((σ_8.2.1 60 (30 + v2).toNatClampNeg) + 1))) (12 + v2).toNatClampNeg) - (s8_truth v1)))) (upd (upd (upd (σ_8.2.1 60) (30 + v2).toNatClampNeg (s8_lesser 99 ((σ_8.2.1 60 (30 + v2).toNatClampNeg) + 1))) (12 + v2).toNatClampNeg (s8_greater 0 (((upd (σ_8.2.1 60) (30 + v2).toNatClampNeg (s8_lesser 99 ((σ_8.2.1 60 (30 + v2).toNatClampNeg) + 1))) (12 + v2).toNatClampNeg) - (s8_truth v1)))) (18 + v2).toNatClampNeg (s8_greater 0 (((upd (upd (σ_8.2.1 60) (30 + v2).toNatClampNeg (s8_lesser 99 ((σ_8.2.1 60 (30 + v2).toNatClampNeg) + 1))) (12 + v2).toNatClampNeg (s8_greater 0 (((upd (σ_8.2.1 60) (30 + v2).toNatClampNeg (s8_lesser 99 ((σ_8.2.1 60 (30 + v2).toNatClampNeg) + 1))) (12 + v2).toNatClampNeg) - (s8_truth v1)))) (18 + v2).toNatClampNeg) - (s8_truth v1)))) σ_8.2.2.1 σ_8.2.2.2) ?_
      refine S_iinc (v := v2 + 1) (ls1 := .ref T :: [.int v1, .int (v2 + 1), U_]) dX8_goDay_140 rfl rfl (by decide) rfl rfl ?_
      refine R_goto 42 dX8_goDay_143 (by decide) ?_
      exact h G l T hp hK hT
    · replace h := h.2 c11
      refine R_goto 140 dX8_goDay_58 (by decide) ?_
      refine S_iinc (v := v2 + 1) (ls1 := .ref T :: [.int v1, .int (v2 + 1), U_]) dX8_goDay_140 rfl rfl (by decide) rfl rfl ?_
      refine R_goto 42 dX8_goDay_143 (by decide) ?_
      exact h G l T hp hK hT
theorem g8_goDay_171 {d : Nat} {v1 : Int32} {v2 : Int32} {v3 : Int32} {σ σ1 : S8} {r : Option Value} (h : (((σ.1 48) ≤ v3) → r = some (.int v2) ∧ σ1 = σ) ∧ ((¬ (σ.1 48) ≤ v3) → ((¬ ((v2 >>> (v3 &&& 31)) &&& 1) = 1) → Rn8 mX8_goDay (d + 7) 171 [.int v1, .int v2, .int (v3 + 1)] (fun T => []) σ r σ1) ∧ ((((v2 >>> (v3 &&& 31)) &&& 1) = 1) → vp_in (6 + v3) 39 ∧ (Rn8 mX8_goDay (d + 7) 171 [.int v1, .int v2, .int (v3 + 1)] (fun T => []) (σ.1, upA σ.2.1 60 (upd (σ.2.1 60) (6 + v3).toNatClampNeg (-1)), σ.2.2.1, σ.2.2.2) r σ1)))) : Rn8 mX8_goDay (d + 7) 171 [.int v1, .int v2, .int v3] (fun T => []) σ r σ1 := by
  intro G l T hp hK hT
  refine R_iload_n dX8_goDay_171 rfl ?_
  refine R_aload_n dX8_goDay_172 rfl ?_
  refine T8_get (x := σ.1 48) hT dX8_goDay_173 fl8_387 ⟨by decide, rfl⟩ rfl ?_
  refine R_icmp_ge 204 dX8_goDay_176 (by decide) (fun c1 => ?_) (fun c1 => ?_)
  · replace h := h.1 c1
    refine R_iload_n dX8_goDay_204 rfl ?_
    exact R_iret dX8_goDay_205 rfl rfl ⟨h.1.symm, by rw [h.2]⟩
  · replace h := h.2 c1
    refine R_iload_n dX8_goDay_179 rfl ?_
    refine R_iload_n dX8_goDay_180 rfl ?_
    refine R_ishr dX8_goDay_181 ?_
    refine R_iconst (v := 1) dX8_goDay_182 (by decide) ?_
    refine R_iand dX8_goDay_183 ?_
    refine R_iconst (v := 1) dX8_goDay_184 (by decide) ?_
    refine R_icmp_ne 198 dX8_goDay_185 (by decide) (fun c2 => ?_) (fun c2 => ?_)
    · replace h := h.1 c2
      refine S_iinc (v := v3 + 1) (ls1 := .ref T :: [.int v1, .int v2, .int (v3 + 1)]) dX8_goDay_198 rfl rfl (by decide) rfl rfl ?_
      refine R_goto 171 dX8_goDay_201 (by decide) ?_
      exact h G l T hp hK hT
    · replace h := h.2 c2
      refine R_aload_n dX8_goDay_188 rfl ?_
      refine T8_geta hT dX8_goDay_189 fl8_96 ⟨by decide, by decide, by decide⟩ ?_
      refine R_bipush (v := 6) dX8_goDay_192 (by decide) ?_
      refine R_iload_n dX8_goDay_194 rfl ?_
      refine R_iadd dX8_goDay_195 ?_
      refine R_iconst (v := (-1)) dX8_goDay_196 (by decide) ?_
      have b3 := h.1
      refine T8_iast (σ9 := (σ.1, upA σ.2.1 60 (upd (σ.2.1 60) (6 + v3).toNatClampNeg (-1)), σ.2.2.1, σ.2.2.2)) hK hT dX8_goDay_197 ⟨by decide, rfl⟩ b3 rfl ?_
      replace h := h.2
      refine S_iinc (v := v3 + 1) (ls1 := .ref T :: [.int v1, .int v2, .int (v3 + 1)]) dX8_goDay_198 rfl rfl (by decide) rfl rfl ?_
      refine R_goto 171 dX8_goDay_201 (by decide) ?_
      exact h G l T hp hK hT
theorem g8_readLine_0 {d : Nat} {σ σ1 : S8} {r : Option Value} (h : ∃ (r3 : Int32) (σ_1 : S8), Tw8 mX8_isWord (d + 6) [.long 7168366] σ (some (.int r3)) σ_1 ∧ (((r3 = 0) → Rn8 mX8_readLine (d + 7) 26 [] (fun T => []) σ_1 r σ1) ∧ ((¬ r3 = 0) → ((6 ≤ (σ_1.1 41)) → Rn8 mX8_readLine (d + 7) 26 [] (fun T => []) σ_1 r σ1) ∧ ((¬ 6 ≤ (σ_1.1 41)) → ∃ σ_6 : S8, Tw8 mX8_readMan (d + 6) [] σ_1 none σ_6 ∧ (Rn8 mX8_readLine (d + 7) 274 [] (fun T => []) σ_6 r σ1))))) : Rn8 mX8_readLine (d + 7) 0 [] (fun T => []) σ r σ1 := by
  intro G l T hp hK hT
  refine R_aload_n dX8_readLine_0 rfl ?_
  refine R_ldc2 dX8_readLine_1 q1703 ?_
  obtain ⟨r3, σ_1, e2, h⟩ := h
  refine T8_call [.long 7168366] hK hT dX8_readLine_4 cv8_228 rfl rfl rfl (Nat.le_of_ble_eq_true rfl) e2 ?_
  show RnH [] G l mX8_readLine (d + 7) (fun v hp1 => v = r ∧ hp1 = tw T σ1 hp) noX 7 (.ref T :: []) [.int r3] (tw T σ_1 hp) 0 0
  refine R_if_eq 26 dX8_readLine_7 (by decide) (fun c4 => ?_) (fun c4 => ?_)
  · replace h := h.1 c4
    exact h G l T hp hK hT
  · replace h := h.2 c4
    refine R_aload_n dX8_readLine_10 rfl ?_
    refine T8_get (x := σ_1.1 41) hT dX8_readLine_11 fl8_330 ⟨by decide, rfl⟩ rfl ?_
    refine R_bipush (v := 6) dX8_readLine_14 (by decide) ?_
    refine R_icmp_ge 26 dX8_readLine_16 (by decide) (fun c5 => ?_) (fun c5 => ?_)
    · replace h := h.1 c5
      exact h G l T hp hK hT
    · replace h := h.2 c5
      refine R_aload_n dX8_readLine_19 rfl ?_
      obtain ⟨σ_6, e7, h⟩ := h
      refine T8_call [] hK hT dX8_readLine_20 cv8_342 rfl rfl rfl (Nat.le_of_ble_eq_true rfl) e7 ?_
      show RnH [] G l mX8_readLine (d + 7) (fun v hp1 => v = r ∧ hp1 = tw T σ1 hp) noX 23 (.ref T :: []) [] (tw T σ_6 hp) 0 0
      refine R_goto 274 dX8_readLine_23 (by decide) ?_
      exact h G l T hp hK hT
theorem g8_readLine_26 {d : Nat} {σ σ1 : S8} {r : Option Value} (h : ∃ (r3 : Int32) (σ_1 : S8), Tw8 mX8_isWord (d + 6) [.long 1668243828] σ (some (.int r3)) σ_1 ∧ (((r3 = 0) → Rn8 mX8_readLine (d + 7) 52 [] (fun T => []) σ_1 r σ1) ∧ ((¬ r3 = 0) → ((6 ≤ (σ_1.1 42)) → Rn8 mX8_readLine (d + 7) 52 [] (fun T => []) σ_1 r σ1) ∧ ((¬ 6 ≤ (σ_1.1 42)) → ∃ σ_6 : S8, Tw8 mX8_readCoat (d + 6) [] σ_1 none σ_6 ∧ (Rn8 mX8_readLine (d + 7) 274 [] (fun T => []) σ_6 r σ1))))) : Rn8 mX8_readLine (d + 7) 26 [] (fun T => []) σ r σ1 := by
  intro G l T hp hK hT
  refine R_aload_n dX8_readLine_26 rfl ?_
  refine R_ldc2 dX8_readLine_27 q1727 ?_
  obtain ⟨r3, σ_1, e2, h⟩ := h
  refine T8_call [.long 1668243828] hK hT dX8_readLine_30 cv8_228 rfl rfl rfl (Nat.le_of_ble_eq_true rfl) e2 ?_
  show RnH [] G l mX8_readLine (d + 7) (fun v hp1 => v = r ∧ hp1 = tw T σ1 hp) noX 33 (.ref T :: []) [.int r3] (tw T σ_1 hp) 0 0
  refine R_if_eq 52 dX8_readLine_33 (by decide) (fun c4 => ?_) (fun c4 => ?_)
  · replace h := h.1 c4
    exact h G l T hp hK hT
  · replace h := h.2 c4
    refine R_aload_n dX8_readLine_36 rfl ?_
    refine T8_get (x := σ_1.1 42) hT dX8_readLine_37 fl8_339 ⟨by decide, rfl⟩ rfl ?_
    refine R_bipush (v := 6) dX8_readLine_40 (by decide) ?_
    refine R_icmp_ge 52 dX8_readLine_42 (by decide) (fun c5 => ?_) (fun c5 => ?_)
    · replace h := h.1 c5
      exact h G l T hp hK hT
    · replace h := h.2 c5
      refine R_aload_n dX8_readLine_45 rfl ?_
      obtain ⟨σ_6, e7, h⟩ := h
      refine T8_call [] hK hT dX8_readLine_46 cv8_345 rfl rfl rfl (Nat.le_of_ble_eq_true rfl) e7 ?_
      show RnH [] G l mX8_readLine (d + 7) (fun v hp1 => v = r ∧ hp1 = tw T σ1 hp) noX 49 (.ref T :: []) [] (tw T σ_6 hp) 0 0
      refine R_goto 274 dX8_readLine_49 (by decide) ?_
      exact h G l T hp hK hT
theorem g8_readLine_274 {d : Nat} {σ σ1 : S8} {r : Option Value} (h : ((¬ (σ.1 2) = 0) → ((¬ (σ.1 2) = 0) → r = none ∧ σ1 = σ) ∧ (((σ.1 2) = 0) → ∃ σ_3 : S8, Tw8 mX8_token (d + 6) [] σ none σ_3 ∧ (r = none ∧ σ1 = σ_3))) ∧ (((σ.1 2) = 0) → (((σ.1 6) = 59) → ((¬ (σ.1 2) = 0) → r = none ∧ σ1 = σ) ∧ (((σ.1 2) = 0) → ∃ σ_7 : S8, Tw8 mX8_token (d + 6) [] σ none σ_7 ∧ (r = none ∧ σ1 = σ_7))) ∧ ((¬ (σ.1 6) = 59) → ∃ σ_9 : S8, Tw8 mX8_wrong (d + 6) [.int 2] σ none σ_9 ∧ (((¬ (σ_9.1 2) = 0) → r = none ∧ σ1 = σ_9) ∧ (((σ_9.1 2) = 0) → ∃ σ_12 : S8, Tw8 mX8_token (d + 6) [] σ_9 none σ_12 ∧ (r = none ∧ σ1 = σ_12)))))) : Rn8 mX8_readLine (d + 7) 274 [] (fun T => []) σ r σ1 := by
  intro G l T hp hK hT
  refine R_aload_n dX8_readLine_274 rfl ?_
  refine T8_get (x := σ.1 2) hT dX8_readLine_275 fl8_179 ⟨by decide, rfl⟩ rfl ?_
  refine R_if_ne 295 dX8_readLine_278 (by decide) (fun c1 => ?_) (fun c1 => ?_)
  · replace h := h.1 c1
    refine R_aload_n dX8_readLine_295 rfl ?_
    refine T8_get (x := σ.1 2) hT dX8_readLine_296 fl8_179 ⟨by decide, rfl⟩ rfl ?_
    refine R_if_ne 306 dX8_readLine_299 (by decide) (fun c2 => ?_) (fun c2 => ?_)
    · replace h := h.1 c2
      exact R_vret dX8_readLine_306 rfl ⟨h.1.symm, by rw [h.2]⟩
    · replace h := h.2 c2
      refine R_aload_n dX8_readLine_302 rfl ?_
      obtain ⟨σ_3, e4, h⟩ := h
      refine T8_call [] hK hT dX8_readLine_303 cv8_235 rfl rfl rfl (Nat.le_of_ble_eq_true rfl) e4 ?_
      show RnH [] G l mX8_readLine (d + 7) (fun v hp1 => v = r ∧ hp1 = tw T σ1 hp) noX 306 (.ref T :: []) [] (tw T σ_3 hp) 0 0
      exact R_vret dX8_readLine_306 rfl ⟨h.1.symm, by rw [h.2]⟩
  · replace h := h.2 c1
    refine R_aload_n dX8_readLine_281 rfl ?_
    refine T8_get (x := σ.1 6) hT dX8_readLine_282 fl8_166 ⟨by decide, rfl⟩ rfl ?_
    refine R_bipush (v := 59) dX8_readLine_285 (by decide) ?_
    refine R_icmp_eq 295 dX8_readLine_287 (by decide) (fun c5 => ?_) (fun c5 => ?_)
    · replace h := h.1 c5
      refine R_aload_n dX8_readLine_295 rfl ?_
      refine T8_get (x := σ.1 2) hT dX8_readLine_296 fl8_179 ⟨by decide, rfl⟩ rfl ?_
      refine R_if_ne 306 dX8_readLine_299 (by decide) (fun c6 => ?_) (fun c6 => ?_)
      · replace h := h.1 c6
        exact R_vret dX8_readLine_306 rfl ⟨h.1.symm, by rw [h.2]⟩
      · replace h := h.2 c6
        refine R_aload_n dX8_readLine_302 rfl ?_
        obtain ⟨σ_7, e8, h⟩ := h
        refine T8_call [] hK hT dX8_readLine_303 cv8_235 rfl rfl rfl (Nat.le_of_ble_eq_true rfl) e8 ?_
        show RnH [] G l mX8_readLine (d + 7) (fun v hp1 => v = r ∧ hp1 = tw T σ1 hp) noX 306 (.ref T :: []) [] (tw T σ_7 hp) 0 0
        exact R_vret dX8_readLine_306 rfl ⟨h.1.symm, by rw [h.2]⟩
    · replace h := h.2 c5
      refine R_aload_n dX8_readLine_290 rfl ?_
      refine R_iconst (v := 2) dX8_readLine_291 (by decide) ?_
      obtain ⟨σ_9, e10, h⟩ := h
      refine T8_call [.int 2] hK hT dX8_readLine_292 cv8_232 rfl rfl rfl (Nat.le_of_ble_eq_true rfl) e10 ?_
      show RnH [] G l mX8_readLine (d + 7) (fun v hp1 => v = r ∧ hp1 = tw T σ1 hp) noX 295 (.ref T :: []) [] (tw T σ_9 hp) 0 0
      refine R_aload_n dX8_readLine_295 rfl ?_
      refine T8_get (x := σ_9.1 2) hT dX8_readLine_296 fl8_179 ⟨by decide, rfl⟩ rfl ?_
      refine R_if_ne 306 dX8_readLine_299 (by decide) (fun c11 => ?_) (fun c11 => ?_)
      · replace h := h.1 c11
        exact R_vret dX8_readLine_306 rfl ⟨h.1.symm, by rw [h.2]⟩
      · replace h := h.2 c11
        refine R_aload_n dX8_readLine_302 rfl ?_
        obtain ⟨σ_12, e13, h⟩ := h
        refine T8_call [] hK hT dX8_readLine_303 cv8_235 rfl rfl rfl (Nat.le_of_ble_eq_true rfl) e13 ?_
        show RnH [] G l mX8_readLine (d + 7) (fun v hp1 => v = r ∧ hp1 = tw T σ1 hp) noX 306 (.ref T :: []) [] (tw T σ_12 hp) 0 0
        exact R_vret dX8_readLine_306 rfl ⟨h.1.symm, by rw [h.2]⟩
theorem g8_readLine_52 {d : Nat} {σ σ1 : S8} {r : Option Value} (h : ∃ (r3 : Int32) (σ_1 : S8), Tw8 mX8_isWord (d + 6) [.long 6909036] σ (some (.int r3)) σ_1 ∧ (((r3 = 0) → Rn8 mX8_readLine (d + 7) 76 [] (fun T => []) σ_1 r σ1) ∧ ((¬ r3 = 0) → ((¬ (σ_1.1 24) = 0) → Rn8 mX8_readLine (d + 7) 76 [] (fun T => []) σ_1 r σ1) ∧ (((σ_1.1 24) = 0) → ∃ σ_6 : S8, Tw8 mX8_formula (d + 6) [] σ_1 none σ_6 ∧ (Rn8 mX8_readLine (d + 7) 274 [] (fun T => []) σ_6 r σ1))))) : Rn8 mX8_readLine (d + 7) 52 [] (fun T => []) σ r σ1 := by
  intro G l T hp hK hT
  refine R_aload_n dX8_readLine_52 rfl ?_
  refine R_ldc2 dX8_readLine_53 q1730 ?_
  obtain ⟨r3, σ_1, e2, h⟩ := h
  refine T8_call [.long 6909036] hK hT dX8_readLine_56 cv8_228 rfl rfl rfl (Nat.le_of_ble_eq_true rfl) e2 ?_
  show RnH [] G l mX8_readLine (d + 7) (fun v hp1 => v = r ∧ hp1 = tw T σ1 hp) noX 59 (.ref T :: []) [.int r3] (tw T σ_1 hp) 0 0
  refine R_if_eq 76 dX8_readLine_59 (by decide) (fun c4 => ?_) (fun c4 => ?_)
  · replace h := h.1 c4
    exact h G l T hp hK hT
  · replace h := h.2 c4
    refine R_aload_n dX8_readLine_62 rfl ?_
    refine T8_get (x := σ_1.1 24) hT dX8_readLine_63 fl8_291 ⟨by decide, rfl⟩ rfl ?_
    refine R_if_ne 76 dX8_readLine_66 (by decide) (fun c5 => ?_) (fun c5 => ?_)
    · replace h := h.1 c5
      exact h G l T hp hK hT
    · replace h := h.2 c5
      refine R_aload_n dX8_readLine_69 rfl ?_
      obtain ⟨σ_6, e7, h⟩ := h
      refine T8_call [] hK hT dX8_readLine_70 cv8_348 rfl rfl rfl (Nat.le_of_ble_eq_true rfl) e7 ?_
      show RnH [] G l mX8_readLine (d + 7) (fun v hp1 => v = r ∧ hp1 = tw T σ1 hp) noX 73 (.ref T :: []) [] (tw T σ_6 hp) 0 0
      refine R_goto 274 dX8_readLine_73 (by decide) ?_
      exact h G l T hp hK hT
theorem g8_readLine_76 {d : Nat} {σ σ1 : S8} {r : Option Value} (h : ∃ (r3 : Int32) (σ_1 : S8), Tw8 mX8_isWord (d + 6) [.long 1700885369] σ (some (.int r3)) σ_1 ∧ (((r3 = 0) → Rn8 mX8_readLine (d + 7) 115 [] (fun T => []) σ_1 r σ1) ∧ ((¬ r3 = 0) → ((¬ (σ_1.1 54) = 0) → Rn8 mX8_readLine (d + 7) 115 [] (fun T => []) σ_1 r σ1) ∧ (((σ_1.1 54) = 0) → ∃ (r8 : Int32) (σ_6 : S8), Tw8 mX8_told (d + 6) [.long 1700885369, .int 999] (upd σ_1.1 54 1, σ_1.2.1, σ_1.2.2.1, σ_1.2.2.2) (some (.int r8)) σ_6 ∧ (Rn8 mX8_readLine (d + 7) 274 [] (fun T => []) (upd σ_6.1 43 r8, σ_6.2.1, σ_6.2.2.1, σ_6.2.2.2) r σ1))))) : Rn8 mX8_readLine (d + 7) 76 [] (fun T => []) σ r σ1 := by
  intro G l T hp hK hT
  refine R_aload_n dX8_readLine_76 rfl ?_
  refine R_ldc2 dX8_readLine_77 q1731 ?_
  obtain ⟨r3, σ_1, e2, h⟩ := h
  refine T8_call [.long 1700885369] hK hT dX8_readLine_80 cv8_228 rfl rfl rfl (Nat.le_of_ble_eq_true rfl) e2 ?_
  show RnH [] G l mX8_readLine (d + 7) (fun v hp1 => v = r ∧ hp1 = tw T σ1 hp) noX 83 (.ref T :: []) [.int r3] (tw T σ_1 hp) 0 0
  refine R_if_eq 115 dX8_readLine_83 (by decide) (fun c4 => ?_) (fun c4 => ?_)
  · replace h := h.1 c4
    exact h G l T hp hK hT
  · replace h := h.2 c4
    refine R_aload_n dX8_readLine_86 rfl ?_
    refine T8_get (x := σ_1.1 54) hT dX8_readLine_87 fl8_351 ⟨by decide, rfl⟩ rfl ?_
    refine R_if_ne 115 dX8_readLine_90 (by decide) (fun c5 => ?_) (fun c5 => ?_)
    · replace h := h.1 c5
      exact h G l T hp hK hT
    · replace h := h.2 c5
      refine R_aload_n dX8_readLine_93 rfl ?_
      refine R_iconst (v := 1) dX8_readLine_94 (by decide) ?_
      refine T8_put (σ9 := (upd σ_1.1 54 1, σ_1.2.1, σ_1.2.2.1, σ_1.2.2.2)) hK hT dX8_readLine_95 fl8_351 ft8_54 rfl rfl ⟨by decide, rfl⟩ rfl ?_
      refine R_aload_n dX8_readLine_98 rfl ?_
      refine R_aload_n dX8_readLine_99 rfl ?_
      refine R_ldc2 dX8_readLine_100 q1731 ?_
      refine R_sipush (v := 999) dX8_readLine_103 (by decide) ?_
      obtain ⟨r8, σ_6, e7, h⟩ := h
      refine T8_call [.long 1700885369, .int 999] hK hT dX8_readLine_106 cv8_246 rfl rfl rfl (Nat.le_of_ble_eq_true rfl) e7 ?_
      show RnH [] G l mX8_readLine (d + 7) (fun v hp1 => v = r ∧ hp1 = tw T σ1 hp) noX 109 (.ref T :: []) [.int r8, .ref T] (tw T σ_6 hp) 0 0
      refine T8_put (σ9 := (upd σ_6.1 43 r8, σ_6.2.1, σ_6.2.2.1, σ_6.2.2.2)) hK hT dX8_readLine_109 fl8_354 ft8_43 rfl rfl ⟨by decide, rfl⟩ rfl ?_
      refine R_goto 274 dX8_readLine_112 (by decide) ?_
      exact h G l T hp hK hT
theorem g8_readLine_115 {d : Nat} {σ σ1 : S8} {r : Option Value} (h : ∃ (r3 : Int32) (σ_1 : S8), Tw8 mX8_isWord (d + 6) [.long 1651469428] σ (some (.int r3)) σ_1 ∧ (((r3 = 0) → Rn8 mX8_readLine (d + 7) 154 [] (fun T => []) σ_1 r σ1) ∧ ((¬ r3 = 0) → ((¬ (σ_1.1 55) = 0) → Rn8 mX8_readLine (d + 7) 154 [] (fun T => []) σ_1 r σ1) ∧ (((σ_1.1 55) = 0) → ∃ (r8 : Int32) (σ_6 : S8), Tw8 mX8_told (d + 6) [.long 1651469428, .int 999] (upd σ_1.1 55 1, σ_1.2.1, σ_1.2.2.1, σ_1.2.2.2) (some (.int r8)) σ_6 ∧ (Rn8 mX8_readLine (d + 7) 274 [] (fun T => []) (upd σ_6.1 44 r8, σ_6.2.1, σ_6.2.2.1, σ_6.2.2.2) r σ1))))) : Rn8 mX8_readLine (d + 7) 115 [] (fun T => []) σ r σ1 := by
  intro G l T hp hK hT
  refine R_aload_n dX8_readLine_115 rfl ?_
  refine R_ldc2 dX8_readLine_116 q1732 ?_
  obtain ⟨r3, σ_1, e2, h⟩ := h
  refine T8_call [.long 1651469428] hK hT dX8_readLine_119 cv8_228 rfl rfl rfl (Nat.le_of_ble_eq_true rfl) e2 ?_
  show RnH [] G l mX8_readLine (d + 7) (fun v hp1 => v = r ∧ hp1 = tw T σ1 hp) noX 122 (.ref T :: []) [.int r3] (tw T σ_1 hp) 0 0
  refine R_if_eq 154 dX8_readLine_122 (by decide) (fun c4 => ?_) (fun c4 => ?_)
  · replace h := h.1 c4
    exact h G l T hp hK hT
  · replace h := h.2 c4
    refine R_aload_n dX8_readLine_125 rfl ?_
    refine T8_get (x := σ_1.1 55) hT dX8_readLine_126 fl8_357 ⟨by decide, rfl⟩ rfl ?_
    refine R_if_ne 154 dX8_readLine_129 (by decide) (fun c5 => ?_) (fun c5 => ?_)
    · replace h := h.1 c5
      exact h G l T hp hK hT
    · replace h := h.2 c5
      refine R_aload_n dX8_readLine_132 rfl ?_
      refine R_iconst (v := 1) dX8_readLine_133 (by decide) ?_
      refine T8_put (σ9 := (upd σ_1.1 55 1, σ_1.2.1, σ_1.2.2.1, σ_1.2.2.2)) hK hT dX8_readLine_134 fl8_357 ft8_55 rfl rfl ⟨by decide, rfl⟩ rfl ?_
      refine R_aload_n dX8_readLine_137 rfl ?_
      refine R_aload_n dX8_readLine_138 rfl ?_
      refine R_ldc2 dX8_readLine_139 q1732 ?_
      refine R_sipush (v := 999) dX8_readLine_142 (by decide) ?_
      obtain ⟨r8, σ_6, e7, h⟩ := h
      refine T8_call [.long 1651469428, .int 999] hK hT dX8_readLine_145 cv8_246 rfl rfl rfl (Nat.le_of_ble_eq_true rfl) e7 ?_
      show RnH [] G l mX8_readLine (d + 7) (fun v hp1 => v = r ∧ hp1 = tw T σ1 hp) noX 148 (.ref T :: []) [.int r8, .ref T] (tw T σ_6 hp) 0 0
      refine T8_put (σ9 := (upd σ_6.1 44 r8, σ_6.2.1, σ_6.2.2.1, σ_6.2.2.2)) hK hT dX8_readLine_148 fl8_360 ft8_44 rfl rfl ⟨by decide, rfl⟩ rfl ?_
      refine R_goto 274 dX8_readLine_151 (by decide) ?_
      exact h G l T hp hK hT
theorem g8_readLine_154 {d : Nat} {σ σ1 : S8} {r : Option Value} (h : ∃ (r3 : Int32) (σ_1 : S8), Tw8 mX8_isWord (d + 6) [.long 1818848101] σ (some (.int r3)) σ_1 ∧ (((r3 = 0) → Rn8 mX8_readLine (d + 7) 192 [] (fun T => []) σ_1 r σ1) ∧ ((¬ r3 = 0) → ((¬ (σ_1.1 56) = 0) → Rn8 mX8_readLine (d + 7) 192 [] (fun T => []) σ_1 r σ1) ∧ (((σ_1.1 56) = 0) → ∃ (r8 : Int32) (σ_6 : S8), Tw8 mX8_told (d + 6) [.long 1818848101, .int 99] (upd σ_1.1 56 1, σ_1.2.1, σ_1.2.2.1, σ_1.2.2.2) (some (.int r8)) σ_6 ∧ (Rn8 mX8_readLine (d + 7) 274 [] (fun T => []) (upd σ_6.1 45 r8, σ_6.2.1, σ_6.2.2.1, σ_6.2.2.2) r σ1))))) : Rn8 mX8_readLine (d + 7) 154 [] (fun T => []) σ r σ1 := by
  intro G l T hp hK hT
  refine R_aload_n dX8_readLine_154 rfl ?_
  refine R_ldc2 dX8_readLine_155 q1733 ?_
  obtain ⟨r3, σ_1, e2, h⟩ := h
  refine T8_call [.long 1818848101] hK hT dX8_readLine_158 cv8_228 rfl rfl rfl (Nat.le_of_ble_eq_true rfl) e2 ?_
  show RnH [] G l mX8_readLine (d + 7) (fun v hp1 => v = r ∧ hp1 = tw T σ1 hp) noX 161 (.ref T :: []) [.int r3] (tw T σ_1 hp) 0 0
  refine R_if_eq 192 dX8_readLine_161 (by decide) (fun c4 => ?_) (fun c4 => ?_)
  · replace h := h.1 c4
    exact h G l T hp hK hT
  · replace h := h.2 c4
    refine R_aload_n dX8_readLine_164 rfl ?_
    refine T8_get (x := σ_1.1 56) hT dX8_readLine_165 fl8_363 ⟨by decide, rfl⟩ rfl ?_
    refine R_if_ne 192 dX8_readLine_168 (by decide) (fun c5 => ?_) (fun c5 => ?_)
    · replace h := h.1 c5
      exact h G l T hp hK hT
    · replace h := h.2 c5
      refine R_aload_n dX8_readLine_171 rfl ?_
      refine R_iconst (v := 1) dX8_readLine_172 (by decide) ?_
      refine T8_put (σ9 := (upd σ_1.1 56 1, σ_1.2.1, σ_1.2.2.1, σ_1.2.2.2)) hK hT dX8_readLine_173 fl8_363 ft8_56 rfl rfl ⟨by decide, rfl⟩ rfl ?_
      refine R_aload_n dX8_readLine_176 rfl ?_
      refine R_aload_n dX8_readLine_177 rfl ?_
      refine R_ldc2 dX8_readLine_178 q1733 ?_
      refine R_bipush (v := 99) dX8_readLine_181 (by decide) ?_
      obtain ⟨r8, σ_6, e7, h⟩ := h
      refine T8_call [.long 1818848101, .int 99] hK hT dX8_readLine_183 cv8_246 rfl rfl rfl (Nat.le_of_ble_eq_true rfl) e7 ?_
      show RnH [] G l mX8_readLine (d + 7) (fun v hp1 => v = r ∧ hp1 = tw T σ1 hp) noX 186 (.ref T :: []) [.int r8, .ref T] (tw T σ_6 hp) 0 0
      refine T8_put (σ9 := (upd σ_6.1 45 r8, σ_6.2.1, σ_6.2.2.1, σ_6.2.2.2)) hK hT dX8_readLine_186 fl8_366 ft8_45 rfl rfl ⟨by decide, rfl⟩ rfl ?_
      refine R_goto 274 dX8_readLine_189 (by decide) ?_
      exact h G l T hp hK hT
theorem g8_readLine_192 {d : Nat} {σ σ1 : S8} {r : Option Value} (h : ∃ (r3 : Int32) (σ_1 : S8), Tw8 mX8_isWord (d + 6) [.long 1918986606] σ (some (.int r3)) σ_1 ∧ (((r3 = 0) → Rn8 mX8_readLine (d + 7) 230 [] (fun T => []) σ_1 r σ1) ∧ ((¬ r3 = 0) → ((¬ (σ_1.1 57) = 0) → Rn8 mX8_readLine (d + 7) 230 [] (fun T => []) σ_1 r σ1) ∧ (((σ_1.1 57) = 0) → ∃ (r8 : Int32) (σ_6 : S8), Tw8 mX8_told (d + 6) [.long 1918986606, .int 100] (upd σ_1.1 57 1, σ_1.2.1, σ_1.2.2.1, σ_1.2.2.2) (some (.int r8)) σ_6 ∧ (Rn8 mX8_readLine (d + 7) 274 [] (fun T => []) (upd σ_6.1 46 r8, σ_6.2.1, σ_6.2.2.1, σ_6.2.2.2) r σ1))))) : Rn8 mX8_readLine (d + 7) 192 [] (fun T => []) σ r σ1 := by
  intro G l T hp hK hT
  refine R_aload_n dX8_readLine_192 rfl ?_
  refine R_ldc2 dX8_readLine_193 q1734 ?_
  obtain ⟨r3, σ_1, e2, h⟩ := h
  refine T8_call [.long 1918986606] hK hT dX8_readLine_196 cv8_228 rfl rfl rfl (Nat.le_of_ble_eq_true rfl) e2 ?_
  show RnH [] G l mX8_readLine (d + 7) (fun v hp1 => v = r ∧ hp1 = tw T σ1 hp) noX 199 (.ref T :: []) [.int r3] (tw T σ_1 hp) 0 0
  refine R_if_eq 230 dX8_readLine_199 (by decide) (fun c4 => ?_) (fun c4 => ?_)
  · replace h := h.1 c4
    exact h G l T hp hK hT
  · replace h := h.2 c4
    refine R_aload_n dX8_readLine_202 rfl ?_
    refine T8_get (x := σ_1.1 57) hT dX8_readLine_203 fl8_369 ⟨by decide, rfl⟩ rfl ?_
    refine R_if_ne 230 dX8_readLine_206 (by decide) (fun c5 => ?_) (fun c5 => ?_)
    · replace h := h.1 c5
      exact h G l T hp hK hT
    · replace h := h.2 c5
      refine R_aload_n dX8_readLine_209 rfl ?_
      refine R_iconst (v := 1) dX8_readLine_210 (by decide) ?_
      refine T8_put (σ9 := (upd σ_1.1 57 1, σ_1.2.1, σ_1.2.2.1, σ_1.2.2.2)) hK hT dX8_readLine_211 fl8_369 ft8_57 rfl rfl ⟨by decide, rfl⟩ rfl ?_
      refine R_aload_n dX8_readLine_214 rfl ?_
      refine R_aload_n dX8_readLine_215 rfl ?_
      refine R_ldc2 dX8_readLine_216 q1734 ?_
      refine R_bipush (v := 100) dX8_readLine_219 (by decide) ?_
      obtain ⟨r8, σ_6, e7, h⟩ := h
      refine T8_call [.long 1918986606, .int 100] hK hT dX8_readLine_221 cv8_246 rfl rfl rfl (Nat.le_of_ble_eq_true rfl) e7 ?_
      show RnH [] G l mX8_readLine (d + 7) (fun v hp1 => v = r ∧ hp1 = tw T σ1 hp) noX 224 (.ref T :: []) [.int r8, .ref T] (tw T σ_6 hp) 0 0
      refine T8_put (σ9 := (upd σ_6.1 46 r8, σ_6.2.1, σ_6.2.2.1, σ_6.2.2.2)) hK hT dX8_readLine_224 fl8_372 ft8_46 rfl rfl ⟨by decide, rfl⟩ rfl ?_
      refine R_goto 274 dX8_readLine_227 (by decide) ?_
      exact h G l T hp hK hT
theorem g8_readLine_230 {d : Nat} {σ σ1 : S8} {r : Option Value} (h : ∃ (r3 : Int32) (σ_1 : S8), Tw8 mX8_isWord (d + 6) [.long 1685217655] σ (some (.int r3)) σ_1 ∧ (((r3 = 0) → Rn8 mX8_readLine (d + 7) 269 [] (fun T => []) σ_1 r σ1) ∧ ((¬ r3 = 0) → ((¬ (σ_1.1 58) = 0) → Rn8 mX8_readLine (d + 7) 269 [] (fun T => []) σ_1 r σ1) ∧ (((σ_1.1 58) = 0) → ∃ (r8 : Int32) (σ_6 : S8), Tw8 mX8_told (d + 6) [.long 1685217655, .int 999] (upd σ_1.1 58 1, σ_1.2.1, σ_1.2.2.1, σ_1.2.2.2) (some (.int r8)) σ_6 ∧ (Rn8 mX8_readLine (d + 7) 274 [] (fun T => []) (upd σ_6.1 47 r8, σ_6.2.1, σ_6.2.2.1, σ_6.2.2.2) r σ1))))) : Rn8 mX8_readLine (d + 7) 230 [] (fun T => []) σ r σ1 := by
  intro G l T hp hK hT
  refine R_aload_n dX8_readLine_230 rfl ?_
  refine R_ldc2 dX8_readLine_231 q1735 ?_
  obtain ⟨r3, σ_1, e2, h⟩ := h
  refine T8_call [.long 1685217655] hK hT dX8_readLine_234 cv8_228 rfl rfl rfl (Nat.le_of_ble_eq_true rfl) e2 ?_
  show RnH [] G l mX8_readLine (d + 7) (fun v hp1 => v = r ∧ hp1 = tw T σ1 hp) noX 237 (.ref T :: []) [.int r3] (tw T σ_1 hp) 0 0
  refine R_if_eq 269 dX8_readLine_237 (by decide) (fun c4 => ?_) (fun c4 => ?_)
  · replace h := h.1 c4
    exact h G l T hp hK hT
  · replace h := h.2 c4
    refine R_aload_n dX8_readLine_240 rfl ?_
    refine T8_get (x := σ_1.1 58) hT dX8_readLine_241 fl8_375 ⟨by decide, rfl⟩ rfl ?_
    refine R_if_ne 269 dX8_readLine_244 (by decide) (fun c5 => ?_) (fun c5 => ?_)
    · replace h := h.1 c5
      exact h G l T hp hK hT
    · replace h := h.2 c5
      refine R_aload_n dX8_readLine_247 rfl ?_
      refine R_iconst (v := 1) dX8_readLine_248 (by decide) ?_
      refine T8_put (σ9 := (upd σ_1.1 58 1, σ_1.2.1, σ_1.2.2.1, σ_1.2.2.2)) hK hT dX8_readLine_249 fl8_375 ft8_58 rfl rfl ⟨by decide, rfl⟩ rfl ?_
      refine R_aload_n dX8_readLine_252 rfl ?_
      refine R_aload_n dX8_readLine_253 rfl ?_
      refine R_ldc2 dX8_readLine_254 q1735 ?_
      refine R_sipush (v := 999) dX8_readLine_257 (by decide) ?_
      obtain ⟨r8, σ_6, e7, h⟩ := h
      refine T8_call [.long 1685217655, .int 999] hK hT dX8_readLine_260 cv8_246 rfl rfl rfl (Nat.le_of_ble_eq_true rfl) e7 ?_
      show RnH [] G l mX8_readLine (d + 7) (fun v hp1 => v = r ∧ hp1 = tw T σ1 hp) noX 263 (.ref T :: []) [.int r8, .ref T] (tw T σ_6 hp) 0 0
      refine T8_put (σ9 := (upd σ_6.1 47 r8, σ_6.2.1, σ_6.2.2.1, σ_6.2.2.2)) hK hT dX8_readLine_263 fl8_378 ft8_47 rfl rfl ⟨by decide, rfl⟩ rfl ?_
      refine R_goto 274 dX8_readLine_266 (by decide) ?_
      exact h G l T hp hK hT
theorem g8_readLine_269 {d : Nat} {σ σ1 : S8} {r : Option Value} (h : ∃ σ_1 : S8, Tw8 mX8_wrong (d + 6) [.int 2] σ none σ_1 ∧ (Rn8 mX8_readLine (d + 7) 274 [] (fun T => []) σ_1 r σ1)) : Rn8 mX8_readLine (d + 7) 269 [] (fun T => []) σ r σ1 := by
  intro G l T hp hK hT
  refine R_aload_n dX8_readLine_269 rfl ?_
  refine R_iconst (v := 2) dX8_readLine_270 (by decide) ?_
  obtain ⟨σ_1, e2, h⟩ := h
  refine T8_call [.int 2] hK hT dX8_readLine_271 cv8_232 rfl rfl rfl (Nat.le_of_ble_eq_true rfl) e2 ?_
  show RnH [] G l mX8_readLine (d + 7) (fun v hp1 => v = r ∧ hp1 = tw T σ1 hp) noX 274 (.ref T :: []) [] (tw T σ_1 hp) 0 0
  exact h G l T hp hK hT
theorem g8_rota_0 {d : Nat} {v1 : Int32} {σ σ1 : S8} {r : Option Value} (h : (((s8_isIn v1 0 1) = 0) → r = some (.int (-1)) ∧ σ1 = σ) ∧ ((¬ (s8_isIn v1 0 1) = 0) → ((¬ (σ.1 48) = 0) → Rn8 mX8_rota (d + 7) 25 [.int v1, .int 0, .int (-1), .int 0, U_] (fun T => []) σ r σ1) ∧ (((σ.1 48) = 0) → r = some (.int (-1)) ∧ σ1 = σ))) : Rn8 mX8_rota (d + 7) 0 [.int v1, U_, U_, U_, U_] (fun T => []) σ r σ1 := by
  intro G l T hp hK hT
  refine R_iload_n dX8_rota_0 rfl ?_
  refine R_iconst (v := 0) dX8_rota_1 (by decide) ?_
  refine R_iconst (v := 1) dX8_rota_2 (by decide) ?_
  refine T8_callS [.int v1, .int 0, .int 1] dX8_rota_3 cs8_417 rfl rfl (Nat.le_of_ble_eq_true rfl) (st8_isIn (d + 5) v1 0 1) ?_
  show RnH [] G l mX8_rota (d + 7) (fun v hp1 => v = r ∧ hp1 = tw T σ1 hp) noX 6 (.ref T :: [.int v1, U_, U_, U_, U_]) [.int (s8_isIn v1 0 1)] (tw T σ hp) 0 0
  refine R_if_eq 16 dX8_rota_6 (by decide) (fun c1 => ?_) (fun c1 => ?_)
  · replace h := h.1 c1
    refine R_iconst (v := (-1)) dX8_rota_16 (by decide) ?_
    exact R_iret dX8_rota_17 rfl rfl ⟨h.1.symm, by rw [h.2]⟩
  · replace h := h.2 c1
    refine R_aload_n dX8_rota_9 rfl ?_
    refine T8_get (x := σ.1 48) hT dX8_rota_10 fl8_387 ⟨by decide, rfl⟩ rfl ?_
    refine R_if_ne 18 dX8_rota_13 (by decide) (fun c2 => ?_) (fun c2 => ?_)
    · replace h := h.1 c2
      refine R_iconst (v := 0) dX8_rota_18 (by decide) ?_
      refine S_istore_n (ls1 := .ref T :: [.int v1, .int 0, U_, U_, U_]) dX8_rota_19 (by decide) rfl rfl ?_
      refine R_iconst (v := (-1)) dX8_rota_20 (by decide) ?_
      refine S_istore_n (ls1 := .ref T :: [.int v1, .int 0, .int (-1), U_, U_]) dX8_rota_21 (by decide) rfl rfl ?_
      refine R_iconst (v := 0) dX8_rota_22 (by decide) ?_
      refine S_istore (ls1 := .ref T :: [.int v1, .int 0, .int (-1), .int 0, U_]) dX8_rota_23 (by decide) rfl rfl ?_
      exact h G l T hp hK hT
    · replace h := h.2 c2
      refine R_iconst (v := (-1)) dX8_rota_16 (by decide) ?_
      exact R_iret dX8_rota_17 rfl rfl ⟨h.1.symm, by rw [h.2]⟩
theorem g8_rota_25 {d : Nat} {v1 : Int32} {v2 : Int32} {v3 : Int32} {v4 : Int32} {σ σ1 : S8} {r : Option Value} (h : (((σ.1 48) ≤ v4) → r = some (.int (if v1 = 0 then v2 else v3)) ∧ σ1 = σ) ∧ ((¬ (σ.1 48) ≤ v4) → ∃ σ_5 : S8, Tw8 mX8_fill (d + 6) [] σ none σ_5 ∧ (Rn8 mX8_rota (d + 7) 41 [.int v1, .int v2, .int v3, .int v4, .int 0] (fun T => []) σ_5 r σ1))) : Rn8 mX8_rota (d + 7) 25 [.int v1, .int v2, .int v3, .int v4, U_] (fun T => []) σ r σ1 := by
  intro G l T hp hK hT
  refine R_iload dX8_rota_25 rfl ?_
  refine R_aload_n dX8_rota_27 rfl ?_
  refine T8_get (x := σ.1 48) hT dX8_rota_28 fl8_387 ⟨by decide, rfl⟩ rfl ?_
  refine R_icmp_ge 114 dX8_rota_31 (by decide) (fun c1 => ?_) (fun c1 => ?_)
  · replace h := h.1 c1
    refine R_iload_n dX8_rota_114 rfl ?_
    have J2 : RnH [] G l mX8_rota (d + 7) (fun v hp1 => v = r ∧ hp1 = tw T σ1 hp) noX 123 (.ref T :: [.int v1, .int v2, .int v3, .int v4, U_]) [.int (if v1 = 0 then v2 else v3)] (tw T σ hp) 0 0 := by
      exact R_iret dX8_rota_123 rfl rfl ⟨h.1.symm, by rw [h.2]⟩
    refine R_if_ne 122 dX8_rota_115 (by decide) (fun c4 => ?_) (fun c4 => ?_)
    · refine R_iload_n dX8_rota_122 rfl ?_
      simp only [if_neg c4] at J2
      first | exact J2 | (simp only [if_neg c4]; exact J2)
    · refine R_iload_n dX8_rota_118 rfl ?_
      refine R_goto 123 dX8_rota_119 (by decide) ?_
      simp only [if_pos c4] at J2
      first | exact J2 | (simp only [if_pos c4]; exact J2)
  · replace h := h.2 c1
    refine R_aload_n dX8_rota_34 rfl ?_
    obtain ⟨σ_5, e6, h⟩ := h
    refine T8_call [] hK hT dX8_rota_35 cv8_449 rfl rfl rfl (Nat.le_of_ble_eq_true rfl) e6 ?_
    show RnH [] G l mX8_rota (d + 7) (fun v hp1 => v = r ∧ hp1 = tw T σ1 hp) noX 38 (.ref T :: [.int v1, .int v2, .int v3, .int v4, U_]) [] (tw T σ_5 hp) 0 0
    refine R_iconst (v := 0) dX8_rota_38 (by decide) ?_
    refine S_istore (ls1 := .ref T :: [.int v1, .int v2, .int v3, .int v4, .int 0]) dX8_rota_39 (by decide) rfl rfl ?_
    exact h G l T hp hK hT
theorem g8_rota_41 {d : Nat} {v1 : Int32} {v2 : Int32} {v3 : Int32} {v4 : Int32} {v5 : Int32} {σ σ1 : S8} {r : Option Value} (h : (((σ.1 48) ≤ v5) → ∃ (r4 : Int32) (σ_2 : S8), Tw8 mX8_fittedOnes (d + 6) [] σ (some (.int r4)) σ_2 ∧ (((v3 < (s8_members r4)) → Rn8 mX8_rota (d + 7) 25 [.int v1, .int v4, .int (s8_members r4), .int (v4 + 1), U_] (fun T => []) σ_2 r σ1) ∧ ((¬ v3 < (s8_members r4)) → Rn8 mX8_rota (d + 7) 25 [.int v1, .int v2, .int v3, .int (v4 + 1), U_] (fun T => []) σ_2 r σ1))) ∧ ((¬ (σ.1 48) ≤ v5) → (¬ (σ.1 48) = 0) ∧ (vp_in (6 + ((v5 + v4) - (v5 + v4) / (σ.1 48) * (σ.1 48))) 39 ∧ (vp_in (6 + v5) 39 ∧ (Rn8 mX8_rota (d + 7) 41 [.int v1, .int v2, .int v3, .int v4, .int (v5 + 1)] (fun T => []) (σ.1, upA σ.2.1 60 (upd (σ.2.1 60) (6 + v5).toNatClampNeg (σ.2.1 59 (6 + ((v5 + v4) - (v5 + v4) / (σ.1 48) * (σ.1 48))).toNatClampNeg)), σ.2.2.1, σ.2.2.2) r σ1))))) : Rn8 mX8_rota (d + 7) 41 [.int v1, .int v2, .int v3, .int v4, .int v5] (fun T => []) σ r σ1 := by
  intro G l T hp hK hT
  refine R_iload dX8_rota_41 rfl ?_
  refine R_aload_n dX8_rota_43 rfl ?_
  refine T8_get (x := σ.1 48) hT dX8_rota_44 fl8_387 ⟨by decide, rfl⟩ rfl ?_
  refine R_icmp_ge 84 dX8_rota_47 (by decide) (fun c1 => ?_) (fun c1 => ?_)
  · replace h := h.1 c1
    refine R_aload_n dX8_rota_84 rfl ?_
    obtain ⟨r4, σ_2, e3, h⟩ := h
    refine T8_call [] hK hT dX8_rota_85 cv8_443 rfl rfl rfl (Nat.le_of_ble_eq_true rfl) e3 ?_
    show RnH [] G l mX8_rota (d + 7) (fun v hp1 => v = r ∧ hp1 = tw T σ1 hp) noX 88 (.ref T :: [.int v1, .int v2, .int v3, .int v4, .int v5]) [.int r4] (tw T σ_2 hp) 0 0
    refine T8_callS [.int r4] dX8_rota_88 cs8_486 rfl rfl (Nat.le_of_ble_eq_true rfl) (st8_members (d + 5) r4) ?_
    show RnH [] G l mX8_rota (d + 7) (fun v hp1 => v = r ∧ hp1 = tw T σ1 hp) noX 91 (.ref T :: [.int v1, .int v2, .int v3, .int v4, .int v5]) [.int (s8_members r4)] (tw T σ_2 hp) 0 0
    refine S_istore (ls1 := .ref T :: [.int v1, .int v2, .int v3, .int v4, .int (s8_members r4)]) dX8_rota_91 (by decide) rfl rfl ?_
    refine R_iload dX8_rota_93 rfl ?_
    refine R_iload_n dX8_rota_95 rfl ?_
    refine R_icmp_gt 102 dX8_rota_96 (by decide) (fun c5 => ?_) (fun c5 => ?_)
    · replace h := h.1 c5
      refine R_iload dX8_rota_102 rfl ?_
      refine S_istore_n (ls1 := .ref T :: [.int v1, .int v4, .int v3, .int v4, .int (s8_members r4)]) dX8_rota_104 (by decide) rfl rfl ?_
      refine R_iload dX8_rota_105 rfl ?_
      refine S_istore_n (ls1 := .ref T :: [.int v1, .int v4, .int (s8_members r4), .int v4, .int (s8_members r4)]) dX8_rota_107 (by decide) rfl rfl ?_
      refine S_iinc (v := v4 + 1) (ls1 := .ref T :: [.int v1, .int v4, .int (s8_members r4), .int (v4 + 1), .int (s8_members r4)]) dX8_rota_108 rfl rfl (by decide) rfl rfl ?_
      refine R_goto 25 dX8_rota_111 (by decide) ?_
      refine R_drop 5 ?_
      exact h G l T hp hK hT
    · replace h := h.2 c5
      refine R_goto 108 dX8_rota_99 (by decide) ?_
      refine S_iinc (v := v4 + 1) (ls1 := .ref T :: [.int v1, .int v2, .int v3, .int (v4 + 1), .int (s8_members r4)]) dX8_rota_108 rfl rfl (by decide) rfl rfl ?_
      refine R_goto 25 dX8_rota_111 (by decide) ?_
      refine R_drop 5 ?_
      exact h G l T hp hK hT
  · replace h := h.2 c1
    refine R_aload_n dX8_rota_50 rfl ?_
    refine T8_geta hT dX8_rota_51 fl8_96 ⟨by decide, by decide, by decide⟩ ?_
    refine R_bipush (v := 6) dX8_rota_54 (by decide) ?_
    refine R_iload dX8_rota_56 rfl ?_
    refine R_iadd dX8_rota_58 ?_
    refine R_aload_n dX8_rota_59 rfl ?_
    refine T8_geta hT dX8_rota_60 fl8_93 ⟨by decide, by decide, by decide⟩ ?_
    refine R_bipush (v := 6) dX8_rota_63 (by decide) ?_
    refine R_iload dX8_rota_65 rfl ?_
    refine R_iload dX8_rota_67 rfl ?_
    refine R_iadd dX8_rota_69 ?_
    refine R_aload_n dX8_rota_70 rfl ?_
    refine T8_get (x := σ.1 48) hT dX8_rota_71 fl8_387 ⟨by decide, rfl⟩ rfl ?_
    refine R_irem dX8_rota_74 h.1 ?_
    replace h := h.2
    refine R_iadd dX8_rota_75 ?_
    have b6 := h.1
    replace h := h.2
    refine T8_iald (x := σ.2.1 59 (6 + ((v5 + v4) - (v5 + v4) / (σ.1 48) * (σ.1 48))).toNatClampNeg) hT dX8_rota_76 ⟨by decide, rfl⟩ b6 rfl ?_
    have b7 := h.1
    refine T8_iast (σ9 := (σ.1, upA σ.2.1 60 (upd (σ.2.1 60) (6 + v5).toNatClampNeg (σ.2.1 59 (6 + ((v5 + v4) - (v5 + v4) / (σ.1 48) * (σ.1 48))).toNatClampNeg)), σ.2.2.1, σ.2.2.2)) hK hT dX8_rota_77 ⟨by decide, rfl⟩ b7 rfl ?_
    replace h := h.2
    refine S_iinc (v := v5 + 1) (ls1 := .ref T :: [.int v1, .int v2, .int v3, .int v4, .int (v5 + 1)]) dX8_rota_78 rfl rfl (by decide) rfl rfl ?_
    refine R_goto 41 dX8_rota_81 (by decide) ?_
    exact h G l T hp hK hT
theorem g8_turning_0 {d : Nat} {σ σ1 : S8} {r : Option Value} (h : Rn8 mX8_turning (d + 7) 6 [.int (-1), .int (-1), .int 0, U_] (fun T => []) σ r σ1) : Rn8 mX8_turning (d + 7) 0 [U_, U_, U_, U_] (fun T => []) σ r σ1 := by
  intro G l T hp hK hT
  refine R_iconst (v := (-1)) dX8_turning_0 (by decide) ?_
  refine S_istore_n (ls1 := .ref T :: [.int (-1), U_, U_, U_]) dX8_turning_1 (by decide) rfl rfl ?_
  refine R_iconst (v := (-1)) dX8_turning_2 (by decide) ?_
  refine S_istore_n (ls1 := .ref T :: [.int (-1), .int (-1), U_, U_]) dX8_turning_3 (by decide) rfl rfl ?_
  refine R_iconst (v := 0) dX8_turning_4 (by decide) ?_
  refine S_istore_n (ls1 := .ref T :: [.int (-1), .int (-1), .int 0, U_]) dX8_turning_5 (by decide) rfl rfl ?_
  exact h G l T hp hK hT
theorem g8_turning_6 {d : Nat} {v1 : Int32} {v2 : Int32} {v3 : Int32} {σ σ1 : S8} {r : Option Value} (h : (((σ.1 49) ≤ v3) → r = some (.int v1) ∧ σ1 = σ) ∧ ((¬ (σ.1 49) ≤ v3) → ∃ σ_2 : S8, Tw8 mX8_fill (d + 6) [] σ none σ_2 ∧ (((¬ (((σ_2.2.1 60 36) >>> (v3 &&& 31)) &&& 1) = 1) → vp_in (30 + v3) 39 ∧ (∃ (r8 : Int32) (σ_6 : S8), Tw8 mX8_fittedOnes (d + 6) [] (σ_2.1, upA σ_2.2.1 60 (upd (σ_2.2.1 60) (30 + v3).toNatClampNeg 0), σ_2.2.2.1, σ_2.2.2.2) (some (.int r8)) σ_6 ∧ (((v2 < (s8_members r8)) → Rn8 mX8_turning (d + 7) 6 [.int v3, .int (s8_members r8), .int (v3 + 1), U_] (fun T => []) σ_6 r σ1) ∧ ((¬ v2 < (s8_members r8)) → Rn8 mX8_turning (d + 7) 6 [.int v1, .int v2, .int (v3 + 1), U_] (fun T => []) σ_6 r σ1)))) ∧ (((((σ_2.2.1 60 36) >>> (v3 &&& 31)) &&& 1) = 1) → Rn8 mX8_turning (d + 7) 6 [.int v1, .int v2, .int (v3 + 1), U_] (fun T => []) σ_2 r σ1)))) : Rn8 mX8_turning (d + 7) 6 [.int v1, .int v2, .int v3, U_] (fun T => []) σ r σ1 := by
  intro G l T hp hK hT
  refine R_iload_n dX8_turning_6 rfl ?_
  refine R_aload_n dX8_turning_7 rfl ?_
  refine T8_get (x := σ.1 49) hT dX8_turning_8 fl8_390 ⟨by decide, rfl⟩ rfl ?_
  refine R_icmp_ge 75 dX8_turning_11 (by decide) (fun c1 => ?_) (fun c1 => ?_)
  · replace h := h.1 c1
    refine R_iload_n dX8_turning_75 rfl ?_
    exact R_iret dX8_turning_76 rfl rfl ⟨h.1.symm, by rw [h.2]⟩
  · replace h := h.2 c1
    refine R_aload_n dX8_turning_14 rfl ?_
    obtain ⟨σ_2, e3, h⟩ := h
    refine T8_call [] hK hT dX8_turning_15 cv8_449 rfl rfl rfl (Nat.le_of_ble_eq_true rfl) e3 ?_
    show RnH [] G l mX8_turning (d + 7) (fun v hp1 => v = r ∧ hp1 = tw T σ1 hp) noX 18 (.ref T :: [.int v1, .int v2, .int v3, U_]) [] (tw T σ_2 hp) 0 0
    refine R_aload_n dX8_turning_18 rfl ?_
    refine T8_geta hT dX8_turning_19 fl8_96 ⟨by decide, by decide, by decide⟩ ?_
    refine R_bipush (v := 36) dX8_turning_22 (by decide) ?_
    refine T8_iald (x := σ_2.2.1 60 36) hT dX8_turning_24 ⟨by decide, rfl⟩ (by unfold vp_in; decide) rfl ?_
    refine R_iload_n dX8_turning_25 rfl ?_
    refine R_ishr dX8_turning_26 ?_
    refine R_iconst (v := 1) dX8_turning_27 (by decide) ?_
    refine R_iand dX8_turning_28 ?_
    refine R_iconst (v := 1) dX8_turning_29 (by decide) ?_
    refine R_icmp_ne 36 dX8_turning_30 (by decide) (fun c4 => ?_) (fun c4 => ?_)
    · replace h := h.1 c4
      refine R_aload_n dX8_turning_36 rfl ?_
      refine T8_geta hT dX8_turning_37 fl8_96 ⟨by decide, by decide, by decide⟩ ?_
      refine R_bipush (v := 30) dX8_turning_40 (by decide) ?_
      refine R_iload_n dX8_turning_42 rfl ?_
      refine R_iadd dX8_turning_43 ?_
      refine R_iconst (v := 0) dX8_turning_44 (by decide) ?_
      have b5 := h.1
      refine T8_iast (σ9 := (σ_2.1, upA σ_2.2.1 60 (upd (σ_2.2.1 60) (30 + v3).toNatClampNeg 0), σ_2.2.2.1, σ_2.2.2.2)) hK hT dX8_turning_45 ⟨by decide, rfl⟩ b5 rfl ?_
      replace h := h.2
      refine R_aload_n dX8_turning_46 rfl ?_
      obtain ⟨r8, σ_6, e7, h⟩ := h
      refine T8_call [] hK hT dX8_turning_47 cv8_443 rfl rfl rfl (Nat.le_of_ble_eq_true rfl) e7 ?_
      show RnH [] G l mX8_turning (d + 7) (fun v hp1 => v = r ∧ hp1 = tw T σ1 hp) noX 50 (.ref T :: [.int v1, .int v2, .int v3, U_]) [.int r8] (tw T σ_6 hp) 0 0
      refine T8_callS [.int r8] dX8_turning_50 cs8_486 rfl rfl (Nat.le_of_ble_eq_true rfl) (st8_members (d + 5) r8) ?_
      show RnH [] G l mX8_turning (d + 7) (fun v hp1 => v = r ∧ hp1 = tw T σ1 hp) noX 53 (.ref T :: [.int v1, .int v2, .int v3, U_]) [.int (s8_members r8)] (tw T σ_6 hp) 0 0
      refine S_istore (ls1 := .ref T :: [.int v1, .int v2, .int v3, .int (s8_members r8)]) dX8_turning_53 (by decide) rfl rfl ?_
      refine R_iload dX8_turning_55 rfl ?_
      refine R_iload_n dX8_turning_57 rfl ?_
      refine R_icmp_gt 64 dX8_turning_58 (by decide) (fun c9 => ?_) (fun c9 => ?_)
      · replace h := h.1 c9
        refine R_iload_n dX8_turning_64 rfl ?_
        refine S_istore_n (ls1 := .ref T :: [.int v3, .int v2, .int v3, .int (s8_members r8)]) dX8_turning_65 (by decide) rfl rfl ?_
        refine R_iload dX8_turning_66 rfl ?_
        refine S_istore_n (ls1 := .ref T :: [.int v3, .int (s8_members r8), .int v3, .int (s8_members r8)]) dX8_turning_68 (by decide) rfl rfl ?_
        refine S_iinc (v := v3 + 1) (ls1 := .ref T :: [.int v3, .int (s8_members r8), .int (v3 + 1), .int (s8_members r8)]) dX8_turning_69 rfl rfl (by decide) rfl rfl ?_
        refine R_goto 6 dX8_turning_72 (by decide) ?_
        refine R_drop 4 ?_
        exact h G l T hp hK hT
      · replace h := h.2 c9
        refine R_goto 69 dX8_turning_61 (by decide) ?_
        refine S_iinc (v := v3 + 1) (ls1 := .ref T :: [.int v1, .int v2, .int (v3 + 1), .int (s8_members r8)]) dX8_turning_69 rfl rfl (by decide) rfl rfl ?_
        refine R_goto 6 dX8_turning_72 (by decide) ?_
        refine R_drop 4 ?_
        exact h G l T hp hK hT
    · replace h := h.2 c4
      refine R_goto 69 dX8_turning_33 (by decide) ?_
      refine S_iinc (v := v3 + 1) (ls1 := .ref T :: [.int v1, .int v2, .int (v3 + 1), U_]) dX8_turning_69 rfl rfl (by decide) rfl rfl ?_
      refine R_goto 6 dX8_turning_72 (by decide) ?_
      exact h G l T hp hK hT
theorem g8_change_0 {d : Nat} {v1 : Int32} {σ σ1 : S8} {r : Option Value} (h : ((¬ (s8_isIn v1 0 2) = 0) → ∃ (r4 : Int32) (σ_2 : S8), Tw8 mX8_fitted (d + 7) [] σ (some (.int r4)) σ_2 ∧ (Rn8 mX8_change (d + 8) 24 [.int v1, .int (s8_members r4), .int (-1), .int 0, U_, U_] (fun T => []) σ_2 r σ1)) ∧ (((s8_isIn v1 0 2) = 0) → r = some (.int (-1)) ∧ σ1 = σ)) : Rn8 mX8_change (d + 8) 0 [.int v1, U_, U_, U_, U_, U_] (fun T => []) σ r σ1 := by
  intro G l T hp hK hT
  refine R_iload_n dX8_change_0 rfl ?_
  refine R_iconst (v := 0) dX8_change_1 (by decide) ?_
  refine R_iconst (v := 2) dX8_change_2 (by decide) ?_
  refine T8_callS [.int v1, .int 0, .int 2] dX8_change_3 cs8_417 rfl rfl (Nat.le_of_ble_eq_true rfl) (st8_isIn (d + 6) v1 0 2) ?_
  show RnH [] G l mX8_change (d + 8) (fun v hp1 => v = r ∧ hp1 = tw T σ1 hp) noX 6 (.ref T :: [.int v1, U_, U_, U_, U_, U_]) [.int (s8_isIn v1 0 2)] (tw T σ hp) 0 0
  refine R_if_ne 11 dX8_change_6 (by decide) (fun c1 => ?_) (fun c1 => ?_)
  · replace h := h.1 c1
    refine R_aload_n dX8_change_11 rfl ?_
    obtain ⟨r4, σ_2, e3, h⟩ := h
    refine T8_call [] hK hT dX8_change_12 cv8_489 rfl rfl rfl (Nat.le_of_ble_eq_true rfl) e3 ?_
    show RnH [] G l mX8_change (d + 8) (fun v hp1 => v = r ∧ hp1 = tw T σ1 hp) noX 15 (.ref T :: [.int v1, U_, U_, U_, U_, U_]) [.int r4] (tw T σ_2 hp) 0 0
    refine T8_callS [.int r4] dX8_change_15 cs8_486 rfl rfl (Nat.le_of_ble_eq_true rfl) (st8_members (d + 6) r4) ?_
    show RnH [] G l mX8_change (d + 8) (fun v hp1 => v = r ∧ hp1 = tw T σ1 hp) noX 18 (.ref T :: [.int v1, U_, U_, U_, U_, U_]) [.int (s8_members r4)] (tw T σ_2 hp) 0 0
    refine S_istore_n (ls1 := .ref T :: [.int v1, .int (s8_members r4), U_, U_, U_, U_]) dX8_change_18 (by decide) rfl rfl ?_
    refine R_iconst (v := (-1)) dX8_change_19 (by decide) ?_
    refine S_istore_n (ls1 := .ref T :: [.int v1, .int (s8_members r4), .int (-1), U_, U_, U_]) dX8_change_20 (by decide) rfl rfl ?_
    refine R_iconst (v := 0) dX8_change_21 (by decide) ?_
    refine S_istore (ls1 := .ref T :: [.int v1, .int (s8_members r4), .int (-1), .int 0, U_, U_]) dX8_change_22 (by decide) rfl rfl ?_
    exact h G l T hp hK hT
  · replace h := h.2 c1
    refine R_iconst (v := (-1)) dX8_change_9 (by decide) ?_
    exact R_iret dX8_change_10 rfl rfl ⟨h.1.symm, by rw [h.2]⟩
theorem g8_change_24 {d : Nat} {v1 : Int32} {v2 : Int32} {v3 : Int32} {v4 : Int32} {σ σ1 : S8} {r : Option Value} (h : (((σ.1 48) ≤ v4) → ((0 ≤ v3) → ((¬ v1 = 0) → ((¬ v1 = 1) → r = some (.int v2) ∧ σ1 = σ) ∧ ((v1 = 1) → r = some (.int (v3 - v3 / 6 * 6)) ∧ σ1 = σ)) ∧ ((v1 = 0) → r = some (.int (v3 / 6)) ∧ σ1 = σ)) ∧ ((¬ 0 ≤ v3) → r = some (.int (-1)) ∧ σ1 = σ)) ∧ ((¬ (σ.1 48) ≤ v4) → Rn8 mX8_change (d + 8) 39 [.int v1, .int v2, .int v3, .int v4, .int (v4 + 1), U_] (fun T => []) σ r σ1)) : Rn8 mX8_change (d + 8) 24 [.int v1, .int v2, .int v3, .int v4, U_, U_] (fun T => []) σ r σ1 := by
  intro G l T hp hK hT
  refine R_iload dX8_change_24 rfl ?_
  refine R_aload_n dX8_change_26 rfl ?_
  refine T8_get (x := σ.1 48) hT dX8_change_27 fl8_387 ⟨by decide, rfl⟩ rfl ?_
  refine R_icmp_ge 134 dX8_change_30 (by decide) (fun c1 => ?_) (fun c1 => ?_)
  · replace h := h.1 c1
    refine R_iload_n dX8_change_134 rfl ?_
    refine R_if_ge 142 dX8_change_135 (by decide) (fun c2 => ?_) (fun c2 => ?_)
    · replace h := h.1 c2
      refine R_iload_n dX8_change_142 rfl ?_
      refine R_if_ne 153 dX8_change_143 (by decide) (fun c3 => ?_) (fun c3 => ?_)
      · replace h := h.1 c3
        refine R_iload_n dX8_change_153 rfl ?_
        refine R_iconst (v := 1) dX8_change_154 (by decide) ?_
        refine R_icmp_ne 165 dX8_change_155 (by decide) (fun c4 => ?_) (fun c4 => ?_)
        · replace h := h.1 c4
          refine R_iload_n dX8_change_165 rfl ?_
          exact R_iret dX8_change_166 rfl rfl ⟨h.1.symm, by rw [h.2]⟩
        · replace h := h.2 c4
          refine R_iload_n dX8_change_158 rfl ?_
          refine R_bipush (v := 6) dX8_change_159 (by decide) ?_
          refine R_irem dX8_change_161 (by decide) ?_
          refine R_goto 166 dX8_change_162 (by decide) ?_
          exact R_iret dX8_change_166 rfl rfl ⟨h.1.symm, by rw [h.2]⟩
      · replace h := h.2 c3
        refine R_iload_n dX8_change_146 rfl ?_
        refine R_bipush (v := 6) dX8_change_147 (by decide) ?_
        refine R_idiv dX8_change_149 (by decide) ?_
        refine R_goto 166 dX8_change_150 (by decide) ?_
        exact R_iret dX8_change_166 rfl rfl ⟨h.1.symm, by rw [h.2]⟩
    · replace h := h.2 c2
      refine R_iconst (v := (-1)) dX8_change_138 (by decide) ?_
      refine R_goto 166 dX8_change_139 (by decide) ?_
      exact R_iret dX8_change_166 rfl rfl ⟨h.1.symm, by rw [h.2]⟩
  · replace h := h.2 c1
    refine R_iload dX8_change_33 rfl ?_
    refine R_iconst (v := 1) dX8_change_35 (by decide) ?_
    refine R_iadd dX8_change_36 ?_
    refine S_istore (ls1 := .ref T :: [.int v1, .int v2, .int v3, .int v4, .int (v4 + 1), U_]) dX8_change_37 (by decide) rfl rfl ?_
    exact h G l T hp hK hT
theorem g8_change_39 {d : Nat} {v1 : Int32} {v2 : Int32} {v3 : Int32} {v4 : Int32} {v5 : Int32} {σ σ1 : S8} {r : Option Value} (h : (((σ.1 48) ≤ v5) → Rn8 mX8_change (d + 8) 24 [.int v1, .int v2, .int v3, .int (v4 + 1), U_, U_] (fun T => []) σ r σ1) ∧ ((¬ (σ.1 48) ≤ v5) → ∃ σ_2 : S8, Tw8 mX8_fill (d + 7) [] σ none σ_2 ∧ (vp_in (6 + v5) 39 ∧ (vp_in (6 + v4) 39 ∧ (∃ (r8 : Int32) (σ_6 : S8), Tw8 mX8_fittedOnes (d + 7) [] (σ_2.1, upA σ_2.2.1 60 (upd (upd (σ_2.2.1 60) (6 + v4).toNatClampNeg (σ_2.2.1 59 (6 + v5).toNatClampNeg)) (6 + v5).toNatClampNeg (σ_2.2.1 59 (6 + v4).toNatClampNeg)), σ_2.2.2.1, σ_2.2.2.2) (some (.int r8)) σ_6 ∧ (((v2 < (s8_members r8)) → Rn8 mX8_change (d + 8) 39 [.int v1, .int (s8_members r8), .int ((6 * v4) + v5), .int v4, .int (v5 + 1), U_] (fun T => []) σ_6 r σ1) ∧ ((¬ v2 < (s8_members r8)) → Rn8 mX8_change (d + 8) 39 [.int v1, .int v2, .int v3, .int v4, .int (v5 + 1), U_] (fun T => []) σ_6 r σ1))))))) : Rn8 mX8_change (d + 8) 39 [.int v1, .int v2, .int v3, .int v4, .int v5, U_] (fun T => []) σ r σ1 := by
  intro G l T hp hK hT
  refine R_iload dX8_change_39 rfl ?_
  refine R_aload_n dX8_change_41 rfl ?_
  refine T8_get (x := σ.1 48) hT dX8_change_42 fl8_387 ⟨by decide, rfl⟩ rfl ?_
  refine R_icmp_ge 128 dX8_change_45 (by decide) (fun c1 => ?_) (fun c1 => ?_)
  · replace h := h.1 c1
    refine S_iinc (v := v4 + 1) (ls1 := .ref T :: [.int v1, .int v2, .int v3, .int (v4 + 1), .int v5, U_]) dX8_change_128 rfl rfl (by decide) rfl rfl ?_
    refine R_goto 24 dX8_change_131 (by decide) ?_
    refine R_drop 5 ?_
    exact h G l T hp hK hT
  · replace h := h.2 c1
    refine R_aload_n dX8_change_48 rfl ?_
    obtain ⟨σ_2, e3, h⟩ := h
    refine T8_call [] hK hT dX8_change_49 cv8_449 rfl rfl rfl (Nat.le_of_ble_eq_true rfl) e3 ?_
    show RnH [] G l mX8_change (d + 8) (fun v hp1 => v = r ∧ hp1 = tw T σ1 hp) noX 52 (.ref T :: [.int v1, .int v2, .int v3, .int v4, .int v5, U_]) [] (tw T σ_2 hp) 0 0
    refine R_aload_n dX8_change_52 rfl ?_
    refine T8_geta hT dX8_change_53 fl8_96 ⟨by decide, by decide, by decide⟩ ?_
    refine R_bipush (v := 6) dX8_change_56 (by decide) ?_
    refine R_iload dX8_change_58 rfl ?_
    refine R_iadd dX8_change_60 ?_
    refine R_aload_n dX8_change_61 rfl ?_
    refine T8_geta hT dX8_change_62 fl8_93 ⟨by decide, by decide, by decide⟩ ?_
    refine R_bipush (v := 6) dX8_change_65 (by decide) ?_
    refine R_iload dX8_change_67 rfl ?_
    refine R_iadd dX8_change_69 ?_
    have b4 := h.1
    replace h := h.2
    refine T8_iald (x := σ_2.2.1 59 (6 + v5).toNatClampNeg) hT dX8_change_70 ⟨by decide, rfl⟩ b4 rfl ?_
    have b5 := h.1
    refine T8_iast (σ9 := (σ_2.1, upA σ_2.2.1 60 (upd (σ_2.2.1 60) (6 + v4).toNatClampNeg (σ_2.2.1 59 (6 + v5).toNatClampNeg)), σ_2.2.2.1, σ_2.2.2.2)) hK hT dX8_change_71 ⟨by decide, rfl⟩ b5 rfl ?_
    replace h := h.2
    refine R_aload_n dX8_change_72 rfl ?_
    refine T8_geta hT dX8_change_73 fl8_96 ⟨by decide, by decide, by decide⟩ ?_
    refine R_bipush (v := 6) dX8_change_76 (by decide) ?_
    refine R_iload dX8_change_78 rfl ?_
    refine R_iadd dX8_change_80 ?_
    refine R_aload_n dX8_change_81 rfl ?_
    refine T8_geta hT dX8_change_82 fl8_93 ⟨by decide, by decide, by decide⟩ ?_
    refine R_bipush (v := 6) dX8_change_85 (by decide) ?_
    refine R_iload dX8_change_87 rfl ?_
    refine R_iadd dX8_change_89 ?_
    refine T8_iald (x := σ_2.2.1 59 (6 + v4).toNatClampNeg) hT dX8_change_90 ⟨by decide, rfl⟩ b5 rfl ?_
    refine T8_iast (σ9 := (σ_2.1, upA σ_2.2.1 60 (upd (upd (σ_2.2.1 60) (6 + v4).toNatClampNeg (σ_2.2.1 59 (6 + v5).toNatClampNeg)) (6 + v5).toNatClampNeg (σ_2.2.1 59 (6 + v4).toNatClampNeg)), σ_2.2.2.1, σ_2.2.2.2)) hK hT dX8_change_91 ⟨by decide, rfl⟩ b4 (up9 σ_2.1 σ_2.2.1 60 (upd (σ_2.2.1 60) (6 + v4).toNatClampNeg (σ_2.2.1 59 (6 + v5).toNatClampNeg)) (upd (upd (σ_2.2.1 60) (6 + v4).toNatClampNeg (σ_2.2.1 59 (6 + v5).toNatClampNeg)) (6 + v5).toNatClampNeg (σ_2.2.1 59 (6 + v4).toNatClampNeg)) σ_2.2.2.1 σ_2.2.2.2) ?_
    refine R_aload_n dX8_change_92 rfl ?_
    obtain ⟨r8, σ_6, e7, h⟩ := h
    refine T8_call [] hK hT dX8_change_93 cv8_443 rfl rfl rfl (Nat.le_of_ble_eq_true rfl) e7 ?_
    show RnH [] G l mX8_change (d + 8) (fun v hp1 => v = r ∧ hp1 = tw T σ1 hp) noX 96 (.ref T :: [.int v1, .int v2, .int v3, .int v4, .int v5, U_]) [.int r8] (tw T σ_6 hp) 0 0
    refine T8_callS [.int r8] dX8_change_96 cs8_486 rfl rfl (Nat.le_of_ble_eq_true rfl) (st8_members (d + 6) r8) ?_
    show RnH [] G l mX8_change (d + 8) (fun v hp1 => v = r ∧ hp1 = tw T σ1 hp) noX 99 (.ref T :: [.int v1, .int v2, .int v3, .int v4, .int v5, U_]) [.int (s8_members r8)] (tw T σ_6 hp) 0 0
    refine S_istore (ls1 := .ref T :: [.int v1, .int v2, .int v3, .int v4, .int v5, .int (s8_members r8)]) dX8_change_99 (by decide) rfl rfl ?_
    refine R_iload dX8_change_101 rfl ?_
    refine R_iload_n dX8_change_103 rfl ?_
    refine R_icmp_gt 110 dX8_change_104 (by decide) (fun c9 => ?_) (fun c9 => ?_)
    · replace h := h.1 c9
      refine R_iload dX8_change_110 rfl ?_
      refine S_istore_n (ls1 := .ref T :: [.int v1, .int (s8_members r8), .int v3, .int v4, .int v5, .int (s8_members r8)]) dX8_change_112 (by decide) rfl rfl ?_
      refine R_bipush (v := 6) dX8_change_113 (by decide) ?_
      refine R_iload dX8_change_115 rfl ?_
      refine R_imul dX8_change_117 ?_
      refine R_iload dX8_change_118 rfl ?_
      refine R_iadd dX8_change_120 ?_
      refine S_istore_n (ls1 := .ref T :: [.int v1, .int (s8_members r8), .int ((6 * v4) + v5), .int v4, .int v5, .int (s8_members r8)]) dX8_change_121 (by decide) rfl rfl ?_
      refine S_iinc (v := v5 + 1) (ls1 := .ref T :: [.int v1, .int (s8_members r8), .int ((6 * v4) + v5), .int v4, .int (v5 + 1), .int (s8_members r8)]) dX8_change_122 rfl rfl (by decide) rfl rfl ?_
      refine R_goto 39 dX8_change_125 (by decide) ?_
      refine R_drop 6 ?_
      exact h G l T hp hK hT
    · replace h := h.2 c9
      refine R_goto 122 dX8_change_107 (by decide) ?_
      refine S_iinc (v := v5 + 1) (ls1 := .ref T :: [.int v1, .int v2, .int v3, .int v4, .int (v5 + 1), .int (s8_members r8)]) dX8_change_122 rfl rfl (by decide) rfl rfl ?_
      refine R_goto 39 dX8_change_125 (by decide) ?_
      refine R_drop 6 ?_
      exact h G l T hp hK hT
theorem g8_day_0 {d : Nat} {σ σ1 : S8} {r : Option Value} (h : ((¬ (σ.2.1 59 37) = 999) → ∃ σ_2 : S8, Tw8 mX8_act (d + 7) [] σ none σ_2 ∧ (∃ (r6 : Int32) (σ_4 : S8), Tw8 mX8_drawRain (d + 7) [] σ_2 (some (.int r6)) σ_4 ∧ (∃ (r9 : Int32) (σ_7 : S8), Tw8 mX8_goDay (d + 7) [.int r6] σ_4 (some (.int r9)) σ_7 ∧ (∃ σ_10 : S8, Tw8 mX8_keepAir (d + 7) [] σ_7 none σ_10 ∧ (r = some (.int r9) ∧ σ1 = σ_10))))) ∧ (((σ.2.1 59 37) = 999) → r = some (.int (-1)) ∧ σ1 = σ)) : Rn8 mX8_day (d + 8) 0 [U_, U_] (fun T => []) σ r σ1 := by
  intro G l T hp hK hT
  refine R_aload_n dX8_day_0 rfl ?_
  refine T8_geta hT dX8_day_1 fl8_93 ⟨by decide, by decide, by decide⟩ ?_
  refine R_bipush (v := 37) dX8_day_4 (by decide) ?_
  refine T8_iald (x := σ.2.1 59 37) hT dX8_day_6 ⟨by decide, rfl⟩ (by unfold vp_in; decide) rfl ?_
  refine R_sipush (v := 999) dX8_day_7 (by decide) ?_
  refine R_icmp_ne 15 dX8_day_10 (by decide) (fun c1 => ?_) (fun c1 => ?_)
  · replace h := h.1 c1
    refine R_aload_n dX8_day_15 rfl ?_
    obtain ⟨σ_2, e3, h⟩ := h
    refine T8_call [] hK hT dX8_day_16 cv8_458 rfl rfl rfl (Nat.le_of_ble_eq_true rfl) e3 ?_
    show RnH [] G l mX8_day (d + 8) (fun v hp1 => v = r ∧ hp1 = tw T σ1 hp) noX 19 (.ref T :: [U_, U_]) [] (tw T σ_2 hp) 0 0
    refine R_aload_n dX8_day_19 rfl ?_
    obtain ⟨r6, σ_4, e5, h⟩ := h
    refine T8_call [] hK hT dX8_day_20 cv8_461 rfl rfl rfl (Nat.le_of_ble_eq_true rfl) e5 ?_
    show RnH [] G l mX8_day (d + 8) (fun v hp1 => v = r ∧ hp1 = tw T σ1 hp) noX 23 (.ref T :: [U_, U_]) [.int r6] (tw T σ_4 hp) 0 0
    refine S_istore_n (ls1 := .ref T :: [.int r6, U_]) dX8_day_23 (by decide) rfl rfl ?_
    refine R_aload_n dX8_day_24 rfl ?_
    refine R_iload_n dX8_day_25 rfl ?_
    obtain ⟨r9, σ_7, e8, h⟩ := h
    refine T8_call [.int r6] hK hT dX8_day_26 cv8_464 rfl rfl rfl (Nat.le_of_ble_eq_true rfl) e8 ?_
    show RnH [] G l mX8_day (d + 8) (fun v hp1 => v = r ∧ hp1 = tw T σ1 hp) noX 29 (.ref T :: [.int r6, U_]) [.int r9] (tw T σ_7 hp) 0 0
    refine S_istore_n (ls1 := .ref T :: [.int r6, .int r9]) dX8_day_29 (by decide) rfl rfl ?_
    refine R_aload_n dX8_day_30 rfl ?_
    obtain ⟨σ_10, e11, h⟩ := h
    refine T8_call [] hK hT dX8_day_31 cv8_402 rfl rfl rfl (Nat.le_of_ble_eq_true rfl) e11 ?_
    show RnH [] G l mX8_day (d + 8) (fun v hp1 => v = r ∧ hp1 = tw T σ1 hp) noX 34 (.ref T :: [.int r6, .int r9]) [] (tw T σ_10 hp) 0 0
    refine R_iload_n dX8_day_34 rfl ?_
    exact R_iret dX8_day_35 rfl rfl ⟨h.1.symm, by rw [h.2]⟩
  · replace h := h.2 c1
    refine R_iconst (v := (-1)) dX8_day_13 (by decide) ?_
    exact R_iret dX8_day_14 rfl rfl ⟨h.1.symm, by rw [h.2]⟩
theorem g8_out_0 {d : Nat} {v1 : Int32} {σ σ1 : S8} {r : Option Value} (h : ∃ (r3 : Int32) (σ_1 : S8), Tw8 mX8_isMan (d + 7) [.int v1] σ (some (.int r3)) σ_1 ∧ (((¬ r3 = 0) → ∃ σ_5 : S8, Tw8 mX8_fill (d + 7) [] σ_1 none σ_5 ∧ (Rn8 mX8_out (d + 8) 16 [.int v1, .int 0] (fun T => []) σ_5 r σ1)) ∧ ((r3 = 0) → r = some (.int (-1)) ∧ σ1 = σ_1))) : Rn8 mX8_out (d + 8) 0 [.int v1, U_] (fun T => []) σ r σ1 := by
  intro G l T hp hK hT
  refine R_aload_n dX8_out_0 rfl ?_
  refine R_iload_n dX8_out_1 rfl ?_
  obtain ⟨r3, σ_1, e2, h⟩ := h
  refine T8_call [.int v1] hK hT dX8_out_2 cv8_446 rfl rfl rfl (Nat.le_of_ble_eq_true rfl) e2 ?_
  show RnH [] G l mX8_out (d + 8) (fun v hp1 => v = r ∧ hp1 = tw T σ1 hp) noX 5 (.ref T :: [.int v1, U_]) [.int r3] (tw T σ_1 hp) 0 0
  refine R_if_ne 10 dX8_out_5 (by decide) (fun c4 => ?_) (fun c4 => ?_)
  · replace h := h.1 c4
    refine R_aload_n dX8_out_10 rfl ?_
    obtain ⟨σ_5, e6, h⟩ := h
    refine T8_call [] hK hT dX8_out_11 cv8_449 rfl rfl rfl (Nat.le_of_ble_eq_true rfl) e6 ?_
    show RnH [] G l mX8_out (d + 8) (fun v hp1 => v = r ∧ hp1 = tw T σ1 hp) noX 14 (.ref T :: [.int v1, U_]) [] (tw T σ_5 hp) 0 0
    refine R_iconst (v := 0) dX8_out_14 (by decide) ?_
    refine S_istore_n (ls1 := .ref T :: [.int v1, .int 0]) dX8_out_15 (by decide) rfl rfl ?_
    exact h G l T hp hK hT
  · replace h := h.2 c4
    refine R_iconst (v := (-1)) dX8_out_8 (by decide) ?_
    exact R_iret dX8_out_9 rfl rfl ⟨h.1.symm, by rw [h.2]⟩
theorem g8_out_16 {d : Nat} {v1 : Int32} {v2 : Int32} {σ σ1 : S8} {r : Option Value} (h : ((60 < v2) → r = some (.int (-1)) ∧ σ1 = σ) ∧ ((¬ 60 < v2) → vp_in (6 + v1) 39 ∧ (((0 ≤ (σ.2.1 60 (6 + v1).toNatClampNeg)) → ∃ (r6 : Int32) (σ_4 : S8), Tw8 mX8_goDay (d + 7) [.int 0] σ (some (.int r6)) σ_4 ∧ (Rn8 mX8_out (d + 8) 16 [.int v1, .int (v2 + 1)] (fun T => []) σ_4 r σ1)) ∧ ((¬ 0 ≤ (σ.2.1 60 (6 + v1).toNatClampNeg)) → r = some (.int v2) ∧ σ1 = σ)))) : Rn8 mX8_out (d + 8) 16 [.int v1, .int v2] (fun T => []) σ r σ1 := by
  intro G l T hp hK hT
  refine R_iload_n dX8_out_16 rfl ?_
  refine R_bipush (v := 60) dX8_out_17 (by decide) ?_
  refine R_icmp_gt 48 dX8_out_19 (by decide) (fun c1 => ?_) (fun c1 => ?_)
  · replace h := h.1 c1
    refine R_iconst (v := (-1)) dX8_out_48 (by decide) ?_
    exact R_iret dX8_out_49 rfl rfl ⟨h.1.symm, by rw [h.2]⟩
  · replace h := h.2 c1
    refine R_aload_n dX8_out_22 rfl ?_
    refine T8_geta hT dX8_out_23 fl8_96 ⟨by decide, by decide, by decide⟩ ?_
    refine R_bipush (v := 6) dX8_out_26 (by decide) ?_
    refine R_iload_n dX8_out_28 rfl ?_
    refine R_iadd dX8_out_29 ?_
    have b2 := h.1
    replace h := h.2
    refine T8_iald (x := σ.2.1 60 (6 + v1).toNatClampNeg) hT dX8_out_30 ⟨by decide, rfl⟩ b2 rfl ?_
    refine R_if_ge 36 dX8_out_31 (by decide) (fun c3 => ?_) (fun c3 => ?_)
    · replace h := h.1 c3
      refine R_aload_n dX8_out_36 rfl ?_
      refine R_iconst (v := 0) dX8_out_37 (by decide) ?_
      obtain ⟨r6, σ_4, e5, h⟩ := h
      refine T8_call [.int 0] hK hT dX8_out_38 cv8_464 rfl rfl rfl (Nat.le_of_ble_eq_true rfl) e5 ?_
      show RnH [] G l mX8_out (d + 8) (fun v hp1 => v = r ∧ hp1 = tw T σ1 hp) noX 41 (.ref T :: [.int v1, .int v2]) [.int r6] (tw T σ_4 hp) 0 0
      refine R_pop dX8_out_41 rfl ?_
      refine S_iinc (v := v2 + 1) (ls1 := .ref T :: [.int v1, .int (v2 + 1)]) dX8_out_42 rfl rfl (by decide) rfl rfl ?_
      refine R_goto 16 dX8_out_45 (by decide) ?_
      exact h G l T hp hK hT
    · replace h := h.2 c3
      refine R_iload_n dX8_out_34 rfl ?_
      exact R_iret dX8_out_35 rfl rfl ⟨h.1.symm, by rw [h.2]⟩
theorem g8_readAll_0 {d : Nat} {σ σ1 : S8} {r : Option Value} (h : ∃ σ_1 : S8, Tw8 mX8_token (d + 7) [] (upd (upd (upd (upd (upd (upd (upd (upd (upd (upd (upd (upd (upd (upd (upd (upd (upd (upd (upd σ.1 5 (σ.1 1)) 1 0) 4 0) 2 0) 3 (-1)) 41 0) 42 0) 43 10) 44 150) 45 2) 46 0) 47 0) 54 0) 55 0) 56 0) 57 0) 58 0) 24 0) 20 0, σ.2.1, σ.2.2.1, σ.2.2.2) none σ_1 ∧ (Rn8 mX8_readAll (d + 8) 105 [] (fun T => []) σ_1 r σ1)) : Rn8 mX8_readAll (d + 8) 0 [] (fun T => []) σ r σ1 := by
  intro G l T hp hK hT
  refine R_aload_n dX8_readAll_0 rfl ?_
  refine R_aload_n dX8_readAll_1 rfl ?_
  refine T8_get (x := σ.1 1) hT dX8_readAll_2 fl8_139 ⟨by decide, rfl⟩ rfl ?_
  refine T8_put (σ9 := (upd σ.1 5 (σ.1 1), σ.2.1, σ.2.2.1, σ.2.2.2)) hK hT dX8_readAll_5 fl8_149 ft8_5 rfl rfl ⟨by decide, rfl⟩ rfl ?_
  refine R_aload_n dX8_readAll_8 rfl ?_
  refine R_iconst (v := 0) dX8_readAll_9 (by decide) ?_
  refine T8_put (σ9 := (upd (upd σ.1 5 (σ.1 1)) 1 0, σ.2.1, σ.2.2.1, σ.2.2.2)) hK hT dX8_readAll_10 fl8_139 ft8_1 rfl rfl ⟨by decide, rfl⟩ rfl ?_
  refine R_aload_n dX8_readAll_13 rfl ?_
  refine R_iconst (v := 0) dX8_readAll_14 (by decide) ?_
  refine T8_put (σ9 := (upd (upd (upd σ.1 5 (σ.1 1)) 1 0) 4 0, σ.2.1, σ.2.2.1, σ.2.2.2)) hK hT dX8_readAll_15 fl8_146 ft8_4 rfl rfl ⟨by decide, rfl⟩ rfl ?_
  refine R_aload_n dX8_readAll_18 rfl ?_
  refine R_iconst (v := 0) dX8_readAll_19 (by decide) ?_
  refine T8_put (σ9 := (upd (upd (upd (upd σ.1 5 (σ.1 1)) 1 0) 4 0) 2 0, σ.2.1, σ.2.2.1, σ.2.2.2)) hK hT dX8_readAll_20 fl8_179 ft8_2 rfl rfl ⟨by decide, rfl⟩ rfl ?_
  refine R_aload_n dX8_readAll_23 rfl ?_
  refine R_iconst (v := (-1)) dX8_readAll_24 (by decide) ?_
  refine T8_put (σ9 := (upd (upd (upd (upd (upd σ.1 5 (σ.1 1)) 1 0) 4 0) 2 0) 3 (-1), σ.2.1, σ.2.2.1, σ.2.2.2)) hK hT dX8_readAll_25 fl8_13 ft8_3 rfl rfl ⟨by decide, rfl⟩ rfl ?_
  refine R_aload_n dX8_readAll_28 rfl ?_
  refine R_iconst (v := 0) dX8_readAll_29 (by decide) ?_
  refine T8_put (σ9 := (upd (upd (upd (upd (upd (upd σ.1 5 (σ.1 1)) 1 0) 4 0) 2 0) 3 (-1)) 41 0, σ.2.1, σ.2.2.1, σ.2.2.2)) hK hT dX8_readAll_30 fl8_330 ft8_41 rfl rfl ⟨by decide, rfl⟩ rfl ?_
  refine R_aload_n dX8_readAll_33 rfl ?_
  refine R_iconst (v := 0) dX8_readAll_34 (by decide) ?_
  refine T8_put (σ9 := (upd (upd (upd (upd (upd (upd (upd σ.1 5 (σ.1 1)) 1 0) 4 0) 2 0) 3 (-1)) 41 0) 42 0, σ.2.1, σ.2.2.1, σ.2.2.2)) hK hT dX8_readAll_35 fl8_339 ft8_42 rfl rfl ⟨by decide, rfl⟩ rfl ?_
  refine R_aload_n dX8_readAll_38 rfl ?_
  refine R_bipush (v := 10) dX8_readAll_39 (by decide) ?_
  refine T8_put (σ9 := (upd (upd (upd (upd (upd (upd (upd (upd σ.1 5 (σ.1 1)) 1 0) 4 0) 2 0) 3 (-1)) 41 0) 42 0) 43 10, σ.2.1, σ.2.2.1, σ.2.2.2)) hK hT dX8_readAll_41 fl8_354 ft8_43 rfl rfl ⟨by decide, rfl⟩ rfl ?_
  refine R_aload_n dX8_readAll_44 rfl ?_
  refine R_sipush (v := 150) dX8_readAll_45 (by decide) ?_
  refine T8_put (σ9 := (upd (upd (upd (upd (upd (upd (upd (upd (upd σ.1 5 (σ.1 1)) 1 0) 4 0) 2 0) 3 (-1)) 41 0) 42 0) 43 10) 44 150, σ.2.1, σ.2.2.1, σ.2.2.2)) hK hT dX8_readAll_48 fl8_360 ft8_44 rfl rfl ⟨by decide, rfl⟩ rfl ?_
  refine R_aload_n dX8_readAll_51 rfl ?_
  refine R_iconst (v := 2) dX8_readAll_52 (by decide) ?_
  refine T8_put (σ9 := (upd (upd (upd (upd (upd (upd (upd (upd (upd (upd σ.1 5 (σ.1 1)) 1 0) 4 0) 2 0) 3 (-1)) 41 0) 42 0) 43 10) 44 150) 45 2, σ.2.1, σ.2.2.1, σ.2.2.2)) hK hT dX8_readAll_53 fl8_366 ft8_45 rfl rfl ⟨by decide, rfl⟩ rfl ?_
  refine R_aload_n dX8_readAll_56 rfl ?_
  refine R_iconst (v := 0) dX8_readAll_57 (by decide) ?_
  refine T8_put (σ9 := (upd (upd (upd (upd (upd (upd (upd (upd (upd (upd (upd σ.1 5 (σ.1 1)) 1 0) 4 0) 2 0) 3 (-1)) 41 0) 42 0) 43 10) 44 150) 45 2) 46 0, σ.2.1, σ.2.2.1, σ.2.2.2)) hK hT dX8_readAll_58 fl8_372 ft8_46 rfl rfl ⟨by decide, rfl⟩ rfl ?_
  refine R_aload_n dX8_readAll_61 rfl ?_
  refine R_iconst (v := 0) dX8_readAll_62 (by decide) ?_
  refine T8_put (σ9 := (upd (upd (upd (upd (upd (upd (upd (upd (upd (upd (upd (upd σ.1 5 (σ.1 1)) 1 0) 4 0) 2 0) 3 (-1)) 41 0) 42 0) 43 10) 44 150) 45 2) 46 0) 47 0, σ.2.1, σ.2.2.1, σ.2.2.2)) hK hT dX8_readAll_63 fl8_378 ft8_47 rfl rfl ⟨by decide, rfl⟩ rfl ?_
  refine R_aload_n dX8_readAll_66 rfl ?_
  refine R_iconst (v := 0) dX8_readAll_67 (by decide) ?_
  refine T8_put (σ9 := (upd (upd (upd (upd (upd (upd (upd (upd (upd (upd (upd (upd (upd σ.1 5 (σ.1 1)) 1 0) 4 0) 2 0) 3 (-1)) 41 0) 42 0) 43 10) 44 150) 45 2) 46 0) 47 0) 54 0, σ.2.1, σ.2.2.1, σ.2.2.2)) hK hT dX8_readAll_68 fl8_351 ft8_54 rfl rfl ⟨by decide, rfl⟩ rfl ?_
  refine R_aload_n dX8_readAll_71 rfl ?_
  refine R_iconst (v := 0) dX8_readAll_72 (by decide) ?_
  refine T8_put (σ9 := (upd (upd (upd (upd (upd (upd (upd (upd (upd (upd (upd (upd (upd (upd σ.1 5 (σ.1 1)) 1 0) 4 0) 2 0) 3 (-1)) 41 0) 42 0) 43 10) 44 150) 45 2) 46 0) 47 0) 54 0) 55 0, σ.2.1, σ.2.2.1, σ.2.2.2)) hK hT dX8_readAll_73 fl8_357 ft8_55 rfl rfl ⟨by decide, rfl⟩ rfl ?_
  refine R_aload_n dX8_readAll_76 rfl ?_
  refine R_iconst (v := 0) dX8_readAll_77 (by decide) ?_
  refine T8_put (σ9 := (upd (upd (upd (upd (upd (upd (upd (upd (upd (upd (upd (upd (upd (upd (upd σ.1 5 (σ.1 1)) 1 0) 4 0) 2 0) 3 (-1)) 41 0) 42 0) 43 10) 44 150) 45 2) 46 0) 47 0) 54 0) 55 0) 56 0, σ.2.1, σ.2.2.1, σ.2.2.2)) hK hT dX8_readAll_78 fl8_363 ft8_56 rfl rfl ⟨by decide, rfl⟩ rfl ?_
  refine R_aload_n dX8_readAll_81 rfl ?_
  refine R_iconst (v := 0) dX8_readAll_82 (by decide) ?_
  refine T8_put (σ9 := (upd (upd (upd (upd (upd (upd (upd (upd (upd (upd (upd (upd (upd (upd (upd (upd σ.1 5 (σ.1 1)) 1 0) 4 0) 2 0) 3 (-1)) 41 0) 42 0) 43 10) 44 150) 45 2) 46 0) 47 0) 54 0) 55 0) 56 0) 57 0, σ.2.1, σ.2.2.1, σ.2.2.2)) hK hT dX8_readAll_83 fl8_369 ft8_57 rfl rfl ⟨by decide, rfl⟩ rfl ?_
  refine R_aload_n dX8_readAll_86 rfl ?_
  refine R_iconst (v := 0) dX8_readAll_87 (by decide) ?_
  refine T8_put (σ9 := (upd (upd (upd (upd (upd (upd (upd (upd (upd (upd (upd (upd (upd (upd (upd (upd (upd σ.1 5 (σ.1 1)) 1 0) 4 0) 2 0) 3 (-1)) 41 0) 42 0) 43 10) 44 150) 45 2) 46 0) 47 0) 54 0) 55 0) 56 0) 57 0) 58 0, σ.2.1, σ.2.2.1, σ.2.2.2)) hK hT dX8_readAll_88 fl8_375 ft8_58 rfl rfl ⟨by decide, rfl⟩ rfl ?_
  refine R_aload_n dX8_readAll_91 rfl ?_
  refine R_iconst (v := 0) dX8_readAll_92 (by decide) ?_
  refine T8_put (σ9 := (upd (upd (upd (upd (upd (upd (upd (upd (upd (upd (upd (upd (upd (upd (upd (upd (upd (upd σ.1 5 (σ.1 1)) 1 0) 4 0) 2 0) 3 (-1)) 41 0) 42 0) 43 10) 44 150) 45 2) 46 0) 47 0) 54 0) 55 0) 56 0) 57 0) 58 0) 24 0, σ.2.1, σ.2.2.1, σ.2.2.2)) hK hT dX8_readAll_93 fl8_291 ft8_24 rfl rfl ⟨by decide, rfl⟩ rfl ?_
  refine R_aload_n dX8_readAll_96 rfl ?_
  refine R_iconst (v := 0) dX8_readAll_97 (by decide) ?_
  refine T8_put (σ9 := (upd (upd (upd (upd (upd (upd (upd (upd (upd (upd (upd (upd (upd (upd (upd (upd (upd (upd (upd σ.1 5 (σ.1 1)) 1 0) 4 0) 2 0) 3 (-1)) 41 0) 42 0) 43 10) 44 150) 45 2) 46 0) 47 0) 54 0) 55 0) 56 0) 57 0) 58 0) 24 0) 20 0, σ.2.1, σ.2.2.1, σ.2.2.2)) hK hT dX8_readAll_98 fl8_269 ft8_20 rfl rfl ⟨by decide, rfl⟩ rfl ?_
  refine R_aload_n dX8_readAll_101 rfl ?_
  obtain ⟨σ_1, e2, h⟩ := h
  refine T8_call [] hK hT dX8_readAll_102 cv8_235 rfl rfl rfl (Nat.le_of_ble_eq_true rfl) e2 ?_
  show RnH [] G l mX8_readAll (d + 8) (fun v hp1 => v = r ∧ hp1 = tw T σ1 hp) noX 105 (.ref T :: []) [] (tw T σ_1 hp) 0 0
  exact h G l T hp hK hT
theorem g8_readAll_105 {d : Nat} {σ σ1 : S8} {r : Option Value} (h : ((¬ (σ.1 2) = 0) → r = none ∧ σ1 = σ) ∧ (((σ.1 2) = 0) → (((σ.1 6) = 0) → r = none ∧ σ1 = σ) ∧ ((¬ (σ.1 6) = 0) → ∃ σ_3 : S8, Tw8 mX8_readLine (d + 7) [] σ none σ_3 ∧ (Rn8 mX8_readAll (d + 8) 105 [] (fun T => []) σ_3 r σ1)))) : Rn8 mX8_readAll (d + 8) 105 [] (fun T => []) σ r σ1 := by
  intro G l T hp hK hT
  refine R_aload_n dX8_readAll_105 rfl ?_
  refine T8_get (x := σ.1 2) hT dX8_readAll_106 fl8_179 ⟨by decide, rfl⟩ rfl ?_
  refine R_if_ne 126 dX8_readAll_109 (by decide) (fun c1 => ?_) (fun c1 => ?_)
  · replace h := h.1 c1
    exact R_vret dX8_readAll_126 rfl ⟨h.1.symm, by rw [h.2]⟩
  · replace h := h.2 c1
    refine R_aload_n dX8_readAll_112 rfl ?_
    refine T8_get (x := σ.1 6) hT dX8_readAll_113 fl8_166 ⟨by decide, rfl⟩ rfl ?_
    refine R_if_eq 126 dX8_readAll_116 (by decide) (fun c2 => ?_) (fun c2 => ?_)
    · replace h := h.1 c2
      exact R_vret dX8_readAll_126 rfl ⟨h.1.symm, by rw [h.2]⟩
    · replace h := h.2 c2
      refine R_aload_n dX8_readAll_119 rfl ?_
      obtain ⟨σ_3, e4, h⟩ := h
      refine T8_call [] hK hT dX8_readAll_120 cv8_381 rfl rfl rfl (Nat.le_of_ble_eq_true rfl) e4 ?_
      show RnH [] G l mX8_readAll (d + 8) (fun v hp1 => v = r ∧ hp1 = tw T σ1 hp) noX 123 (.ref T :: []) [] (tw T σ_3 hp) 0 0
      refine R_goto 105 dX8_readAll_123 (by decide) ?_
      exact h G l T hp hK hT
theorem g8_rout_0 {d : Nat} {σ σ1 : S8} {r : Option Value} (h : ∃ σ_1 : S8, Tw8 mX8_fill (d + 7) [] σ none σ_1 ∧ (Rn8 mX8_rout (d + 8) 6 [.int 0] (fun T => []) σ_1 r σ1)) : Rn8 mX8_rout (d + 8) 0 [U_] (fun T => []) σ r σ1 := by
  intro G l T hp hK hT
  refine R_aload_n dX8_rout_0 rfl ?_
  obtain ⟨σ_1, e2, h⟩ := h
  refine T8_call [] hK hT dX8_rout_1 cv8_449 rfl rfl rfl (Nat.le_of_ble_eq_true rfl) e2 ?_
  show RnH [] G l mX8_rout (d + 8) (fun v hp1 => v = r ∧ hp1 = tw T σ1 hp) noX 4 (.ref T :: [U_]) [] (tw T σ_1 hp) 0 0
  refine R_iconst (v := 0) dX8_rout_4 (by decide) ?_
  refine S_istore_n (ls1 := .ref T :: [.int 0]) dX8_rout_5 (by decide) rfl rfl ?_
  exact h G l T hp hK hT
theorem g8_rout_6 {d : Nat} {v1 : Int32} {σ σ1 : S8} {r : Option Value} (h : ((60 < v1) → r = some (.int (-1)) ∧ σ1 = σ) ∧ ((¬ 60 < v1) → ∃ (r4 : Int32) (σ_2 : S8), Tw8 mX8_wearers (d + 7) [] σ (some (.int r4)) σ_2 ∧ (((¬ r4 = 0) → ∃ (r8 : Int32) (σ_6 : S8), Tw8 mX8_goDay (d + 7) [.int 0] σ_2 (some (.int r8)) σ_6 ∧ (Rn8 mX8_rout (d + 8) 6 [.int (v1 + 1)] (fun T => []) σ_6 r σ1)) ∧ ((r4 = 0) → r = some (.int v1) ∧ σ1 = σ_2)))) : Rn8 mX8_rout (d + 8) 6 [.int v1] (fun T => []) σ r σ1 := by
  intro G l T hp hK hT
  refine R_iload_n dX8_rout_6 rfl ?_
  refine R_bipush (v := 60) dX8_rout_7 (by decide) ?_
  refine R_icmp_gt 33 dX8_rout_9 (by decide) (fun c1 => ?_) (fun c1 => ?_)
  · replace h := h.1 c1
    refine R_iconst (v := (-1)) dX8_rout_33 (by decide) ?_
    exact R_iret dX8_rout_34 rfl rfl ⟨h.1.symm, by rw [h.2]⟩
  · replace h := h.2 c1
    refine R_aload_n dX8_rout_12 rfl ?_
    obtain ⟨r4, σ_2, e3, h⟩ := h
    refine T8_call [] hK hT dX8_rout_13 cv8_440 rfl rfl rfl (Nat.le_of_ble_eq_true rfl) e3 ?_
    show RnH [] G l mX8_rout (d + 8) (fun v hp1 => v = r ∧ hp1 = tw T σ1 hp) noX 16 (.ref T :: [.int v1]) [.int r4] (tw T σ_2 hp) 0 0
    refine R_if_ne 21 dX8_rout_16 (by decide) (fun c5 => ?_) (fun c5 => ?_)
    · replace h := h.1 c5
      refine R_aload_n dX8_rout_21 rfl ?_
      refine R_iconst (v := 0) dX8_rout_22 (by decide) ?_
      obtain ⟨r8, σ_6, e7, h⟩ := h
      refine T8_call [.int 0] hK hT dX8_rout_23 cv8_464 rfl rfl rfl (Nat.le_of_ble_eq_true rfl) e7 ?_
      show RnH [] G l mX8_rout (d + 8) (fun v hp1 => v = r ∧ hp1 = tw T σ1 hp) noX 26 (.ref T :: [.int v1]) [.int r8] (tw T σ_6 hp) 0 0
      refine R_pop dX8_rout_26 rfl ?_
      refine S_iinc (v := v1 + 1) (ls1 := .ref T :: [.int (v1 + 1)]) dX8_rout_27 rfl rfl (by decide) rfl rfl ?_
      refine R_goto 6 dX8_rout_30 (by decide) ?_
      exact h G l T hp hK hT
    · replace h := h.2 c5
      refine R_iload_n dX8_rout_19 rfl ?_
      exact R_iret dX8_rout_20 rfl rfl ⟨h.1.symm, by rw [h.2]⟩
theorem g8_will_0 {d : Nat} {v1 : Int32} {v2 : Int32} {v3 : Int32} {σ σ1 : S8} {r : Option Value} (h : ∃ (r3 : Int32) (σ_1 : S8), Tw8 mX8_isMan (d + 7) [.int v1] σ (some (.int r3)) σ_1 ∧ (((r3 = 0) → r = some (.int (-2)) ∧ σ1 = σ_1) ∧ ((¬ r3 = 0) → (((s8_isIn v2 0 60) = 0) → r = some (.int (-2)) ∧ σ1 = σ_1) ∧ ((¬ (s8_isIn v2 0 60) = 0) → ((¬ (s8_isIn v3 0 1) = 0) → ∃ σ_7 : S8, Tw8 mX8_fill (d + 7) [] σ_1 none σ_7 ∧ (Rn8 mX8_will (d + 8) 37 [.int v1, .int v2, .int v3, .int 0] (fun T => []) σ_7 r σ1)) ∧ (((s8_isIn v3 0 1) = 0) → r = some (.int (-2)) ∧ σ1 = σ_1))))) : Rn8 mX8_will (d + 8) 0 [.int v1, .int v2, .int v3, U_] (fun T => []) σ r σ1 := by
  intro G l T hp hK hT
  refine R_aload_n dX8_will_0 rfl ?_
  refine R_iload_n dX8_will_1 rfl ?_
  obtain ⟨r3, σ_1, e2, h⟩ := h
  refine T8_call [.int v1] hK hT dX8_will_2 cv8_446 rfl rfl rfl (Nat.le_of_ble_eq_true rfl) e2 ?_
  show RnH [] G l mX8_will (d + 8) (fun v hp1 => v = r ∧ hp1 = tw T σ1 hp) noX 5 (.ref T :: [.int v1, .int v2, .int v3, U_]) [.int r3] (tw T σ_1 hp) 0 0
  refine R_if_eq 27 dX8_will_5 (by decide) (fun c4 => ?_) (fun c4 => ?_)
  · replace h := h.1 c4
    refine R_bipush (v := (-2)) dX8_will_27 (by decide) ?_
    exact R_iret dX8_will_29 rfl rfl ⟨h.1.symm, by rw [h.2]⟩
  · replace h := h.2 c4
    refine R_iload_n dX8_will_8 rfl ?_
    refine R_iconst (v := 0) dX8_will_9 (by decide) ?_
    refine R_bipush (v := 60) dX8_will_10 (by decide) ?_
    refine T8_callS [.int v2, .int 0, .int 60] dX8_will_12 cs8_417 rfl rfl (Nat.le_of_ble_eq_true rfl) (st8_isIn (d + 6) v2 0 60) ?_
    show RnH [] G l mX8_will (d + 8) (fun v hp1 => v = r ∧ hp1 = tw T σ1 hp) noX 15 (.ref T :: [.int v1, .int v2, .int v3, U_]) [.int (s8_isIn v2 0 60)] (tw T σ_1 hp) 0 0
    refine R_if_eq 27 dX8_will_15 (by decide) (fun c5 => ?_) (fun c5 => ?_)
    · replace h := h.1 c5
      refine R_bipush (v := (-2)) dX8_will_27 (by decide) ?_
      exact R_iret dX8_will_29 rfl rfl ⟨h.1.symm, by rw [h.2]⟩
    · replace h := h.2 c5
      refine R_iload_n dX8_will_18 rfl ?_
      refine R_iconst (v := 0) dX8_will_19 (by decide) ?_
      refine R_iconst (v := 1) dX8_will_20 (by decide) ?_
      refine T8_callS [.int v3, .int 0, .int 1] dX8_will_21 cs8_417 rfl rfl (Nat.le_of_ble_eq_true rfl) (st8_isIn (d + 6) v3 0 1) ?_
      show RnH [] G l mX8_will (d + 8) (fun v hp1 => v = r ∧ hp1 = tw T σ1 hp) noX 24 (.ref T :: [.int v1, .int v2, .int v3, U_]) [.int (s8_isIn v3 0 1)] (tw T σ_1 hp) 0 0
      refine R_if_ne 30 dX8_will_24 (by decide) (fun c6 => ?_) (fun c6 => ?_)
      · replace h := h.1 c6
        refine R_aload_n dX8_will_30 rfl ?_
        obtain ⟨σ_7, e8, h⟩ := h
        refine T8_call [] hK hT dX8_will_31 cv8_449 rfl rfl rfl (Nat.le_of_ble_eq_true rfl) e8 ?_
        show RnH [] G l mX8_will (d + 8) (fun v hp1 => v = r ∧ hp1 = tw T σ1 hp) noX 34 (.ref T :: [.int v1, .int v2, .int v3, U_]) [] (tw T σ_7 hp) 0 0
        refine R_iconst (v := 0) dX8_will_34 (by decide) ?_
        refine S_istore (ls1 := .ref T :: [.int v1, .int v2, .int v3, .int 0]) dX8_will_35 (by decide) rfl rfl ?_
        exact h G l T hp hK hT
      · replace h := h.2 c6
        refine R_bipush (v := (-2)) dX8_will_27 (by decide) ?_
        exact R_iret dX8_will_29 rfl rfl ⟨h.1.symm, by rw [h.2]⟩
theorem g8_will_37 {d : Nat} {v1 : Int32} {v2 : Int32} {v3 : Int32} {v4 : Int32} {σ σ1 : S8} {r : Option Value} (h : ((v2 ≤ v4) → vp_in (6 + v1) 39 ∧ (r = some (.int (σ.2.1 60 (6 + v1).toNatClampNeg)) ∧ σ1 = σ)) ∧ ((¬ v2 ≤ v4) → ((¬ v3 = 1) → ∃ (r6 : Int32) (σ_4 : S8), Tw8 mX8_goDay (d + 7) [.int 0] σ (some (.int r6)) σ_4 ∧ (Rn8 mX8_will (d + 8) 37 [.int v1, .int v2, .int v3, .int (v4 + 1)] (fun T => []) σ_4 r σ1)) ∧ ((v3 = 1) → ∃ (r9 : Int32) (σ_7 : S8), Tw8 mX8_drawRain (d + 7) [] σ (some (.int r9)) σ_7 ∧ (∃ (r14 : Int32) (σ_12 : S8), Tw8 mX8_goDay (d + 7) [.int (if r9 = 0 then 0 else 1)] σ_7 (some (.int r14)) σ_12 ∧ (Rn8 mX8_will (d + 8) 37 [.int v1, .int v2, .int v3, .int (v4 + 1)] (fun T => []) σ_12 r σ1))))) : Rn8 mX8_will (d + 8) 37 [.int v1, .int v2, .int v3, .int v4] (fun T => []) σ r σ1 := by
  intro G l T hp hK hT
  refine R_iload dX8_will_37 rfl ?_
  refine R_iload_n dX8_will_39 rfl ?_
  refine R_icmp_ge 71 dX8_will_40 (by decide) (fun c1 => ?_) (fun c1 => ?_)
  · replace h := h.1 c1
    refine R_aload_n dX8_will_71 rfl ?_
    refine T8_geta hT dX8_will_72 fl8_96 ⟨by decide, by decide, by decide⟩ ?_
    refine R_bipush (v := 6) dX8_will_75 (by decide) ?_
    refine R_iload_n dX8_will_77 rfl ?_
    refine R_iadd dX8_will_78 ?_
    have b2 := h.1
    replace h := h.2
    refine T8_iald (x := σ.2.1 60 (6 + v1).toNatClampNeg) hT dX8_will_79 ⟨by decide, rfl⟩ b2 rfl ?_
    exact R_iret dX8_will_80 rfl rfl ⟨h.1.symm, by rw [h.2]⟩
  · replace h := h.2 c1
    refine R_aload_n dX8_will_43 rfl ?_
    refine R_iload_n dX8_will_44 rfl ?_
    refine R_iconst (v := 1) dX8_will_45 (by decide) ?_
    refine R_icmp_ne 60 dX8_will_46 (by decide) (fun c3 => ?_) (fun c3 => ?_)
    · replace h := h.1 c3
      refine R_iconst (v := 0) dX8_will_60 (by decide) ?_
      obtain ⟨r6, σ_4, e5, h⟩ := h
      refine T8_call [.int 0] hK hT dX8_will_61 cv8_464 rfl rfl rfl (Nat.le_of_ble_eq_true rfl) e5 ?_
      show RnH [] G l mX8_will (d + 8) (fun v hp1 => v = r ∧ hp1 = tw T σ1 hp) noX 64 (.ref T :: [.int v1, .int v2, .int v3, .int v4]) [.int r6] (tw T σ_4 hp) 0 0
      refine R_pop dX8_will_64 rfl ?_
      refine S_iinc (v := v4 + 1) (ls1 := .ref T :: [.int v1, .int v2, .int v3, .int (v4 + 1)]) dX8_will_65 rfl rfl (by decide) rfl rfl ?_
      refine R_goto 37 dX8_will_68 (by decide) ?_
      exact h G l T hp hK hT
    · replace h := h.2 c3
      refine R_aload_n dX8_will_49 rfl ?_
      obtain ⟨r9, σ_7, e8, h⟩ := h
      refine T8_call [] hK hT dX8_will_50 cv8_461 rfl rfl rfl (Nat.le_of_ble_eq_true rfl) e8 ?_
      show RnH [] G l mX8_will (d + 8) (fun v hp1 => v = r ∧ hp1 = tw T σ1 hp) noX 53 (.ref T :: [.int v1, .int v2, .int v3, .int v4]) [.int r9, .ref T] (tw T σ_7 hp) 0 0
      have J10 : RnH [] G l mX8_will (d + 8) (fun v hp1 => v = r ∧ hp1 = tw T σ1 hp) noX 61 (.ref T :: [.int v1, .int v2, .int v3, .int v4]) [.int (if r9 = 0 then 0 else 1), .ref T] (tw T σ_7 hp) 0 0 := by
        obtain ⟨r14, σ_12, e13, h⟩ := h
        refine T8_call [.int (if r9 = 0 then 0 else 1)] hK hT dX8_will_61 cv8_464 rfl rfl rfl (Nat.le_of_ble_eq_true rfl) e13 ?_
        show RnH [] G l mX8_will (d + 8) (fun v hp1 => v = r ∧ hp1 = tw T σ1 hp) noX 64 (.ref T :: [.int v1, .int v2, .int v3, .int v4]) [.int r14] (tw T σ_12 hp) 0 0
        refine R_pop dX8_will_64 rfl ?_
        refine S_iinc (v := v4 + 1) (ls1 := .ref T :: [.int v1, .int v2, .int v3, .int (v4 + 1)]) dX8_will_65 rfl rfl (by decide) rfl rfl ?_
        refine R_goto 37 dX8_will_68 (by decide) ?_
        exact h G l T hp hK hT
      refine R_if_eq 60 dX8_will_53 (by decide) (fun c15 => ?_) (fun c15 => ?_)
      · refine R_iconst (v := 0) dX8_will_60 (by decide) ?_
        simp only [if_pos c15] at J10
        first | exact J10 | (simp only [if_pos c15]; exact J10)
      · refine R_iconst (v := 1) dX8_will_56 (by decide) ?_
        refine R_goto 61 dX8_will_57 (by decide) ?_
        simp only [if_neg c15] at J10
        first | exact J10 | (simp only [if_neg c15]; exact J10)
theorem g8_regiment_0 {d : Nat} {σ σ1 : S8} {r : Option Value} (h : ∃ σ_1 : S8, Tw8 mX8_readAll (d + 8) [] σ none σ_1 ∧ ((((σ_1.1 2) ≤ 0) → isB (σ_1.1 24) ∧ (Rn8 mX8_regiment (d + 9) 98 [.int 0] (fun T => []) (upd (upd (upd (upd (upd (upd (upd (upd (upd σ_1.1 48 (σ_1.1 41)) 49 (σ_1.1 42)) 50 (σ_1.1 43)) 51 (σ_1.1 44)) 52 (σ_1.1 45)) 53 (σ_1.1 46)) 21 (σ_1.1 20)) 25 (σ_1.1 24)) 18 (if (σ_1.1 24) = 0 then 0 else σ_1.1 17), σ_1.2.1, σ_1.2.2.1, σ_1.2.2.2) r σ1)) ∧ ((¬ (σ_1.1 2) ≤ 0) → r = some (.int (-1)) ∧ σ1 = σ_1))) : Rn8 mX8_regiment (d + 9) 0 [U_] (fun T => []) σ r σ1 := by
  intro G l T hp hK hT
  refine R_aload_n dX8_regiment_0 rfl ?_
  obtain ⟨σ_1, e2, h⟩ := h
  refine T8_call [] hK hT dX8_regiment_1 cv8_384 rfl rfl rfl (Nat.le_of_ble_eq_true rfl) e2 ?_
  show RnH [] G l mX8_regiment (d + 9) (fun v hp1 => v = r ∧ hp1 = tw T σ1 hp) noX 4 (.ref T :: [U_]) [] (tw T σ_1 hp) 0 0
  refine R_aload_n dX8_regiment_4 rfl ?_
  refine T8_get (x := σ_1.1 2) hT dX8_regiment_5 fl8_179 ⟨by decide, rfl⟩ rfl ?_
  refine R_if_le 13 dX8_regiment_8 (by decide) (fun c3 => ?_) (fun c3 => ?_)
  · replace h := h.1 c3
    refine R_aload_n dX8_regiment_13 rfl ?_
    refine R_aload_n dX8_regiment_14 rfl ?_
    refine T8_get (x := σ_1.1 41) hT dX8_regiment_15 fl8_330 ⟨by decide, rfl⟩ rfl ?_
    refine T8_put (σ9 := (upd σ_1.1 48 (σ_1.1 41), σ_1.2.1, σ_1.2.2.1, σ_1.2.2.2)) hK hT dX8_regiment_18 fl8_387 ft8_48 rfl rfl ⟨by decide, rfl⟩ rfl ?_
    refine R_aload_n dX8_regiment_21 rfl ?_
    refine R_aload_n dX8_regiment_22 rfl ?_
    refine T8_get (x := σ_1.1 42) hT dX8_regiment_23 fl8_339 ⟨by decide, rfl⟩ rfl ?_
    refine T8_put (σ9 := (upd (upd σ_1.1 48 (σ_1.1 41)) 49 (σ_1.1 42), σ_1.2.1, σ_1.2.2.1, σ_1.2.2.2)) hK hT dX8_regiment_26 fl8_390 ft8_49 rfl rfl ⟨by decide, rfl⟩ rfl ?_
    refine R_aload_n dX8_regiment_29 rfl ?_
    refine R_aload_n dX8_regiment_30 rfl ?_
    refine T8_get (x := σ_1.1 43) hT dX8_regiment_31 fl8_354 ⟨by decide, rfl⟩ rfl ?_
    refine T8_put (σ9 := (upd (upd (upd σ_1.1 48 (σ_1.1 41)) 49 (σ_1.1 42)) 50 (σ_1.1 43), σ_1.2.1, σ_1.2.2.1, σ_1.2.2.2)) hK hT dX8_regiment_34 fl8_84 ft8_50 rfl rfl ⟨by decide, rfl⟩ rfl ?_
    refine R_aload_n dX8_regiment_37 rfl ?_
    refine R_aload_n dX8_regiment_38 rfl ?_
    refine T8_get (x := σ_1.1 44) hT dX8_regiment_39 fl8_360 ⟨by decide, rfl⟩ rfl ?_
    refine T8_put (σ9 := (upd (upd (upd (upd σ_1.1 48 (σ_1.1 41)) 49 (σ_1.1 42)) 50 (σ_1.1 43)) 51 (σ_1.1 44), σ_1.2.1, σ_1.2.2.1, σ_1.2.2.2)) hK hT dX8_regiment_42 fl8_87 ft8_51 rfl rfl ⟨by decide, rfl⟩ rfl ?_
    refine R_aload_n dX8_regiment_45 rfl ?_
    refine R_aload_n dX8_regiment_46 rfl ?_
    refine T8_get (x := σ_1.1 45) hT dX8_regiment_47 fl8_366 ⟨by decide, rfl⟩ rfl ?_
    refine T8_put (σ9 := (upd (upd (upd (upd (upd σ_1.1 48 (σ_1.1 41)) 49 (σ_1.1 42)) 50 (σ_1.1 43)) 51 (σ_1.1 44)) 52 (σ_1.1 45), σ_1.2.1, σ_1.2.2.1, σ_1.2.2.2)) hK hT dX8_regiment_50 fl8_90 ft8_52 rfl rfl ⟨by decide, rfl⟩ rfl ?_
    refine R_aload_n dX8_regiment_53 rfl ?_
    refine R_aload_n dX8_regiment_54 rfl ?_
    refine T8_get (x := σ_1.1 46) hT dX8_regiment_55 fl8_372 ⟨by decide, rfl⟩ rfl ?_
    refine T8_put (σ9 := (upd (upd (upd (upd (upd (upd σ_1.1 48 (σ_1.1 41)) 49 (σ_1.1 42)) 50 (σ_1.1 43)) 51 (σ_1.1 44)) 52 (σ_1.1 45)) 53 (σ_1.1 46), σ_1.2.1, σ_1.2.2.1, σ_1.2.2.2)) hK hT dX8_regiment_58 fl8_393 ft8_53 rfl rfl ⟨by decide, rfl⟩ rfl ?_
    refine R_aload_n dX8_regiment_61 rfl ?_
    refine R_aload_n dX8_regiment_62 rfl ?_
    refine T8_get (x := σ_1.1 20) hT dX8_regiment_63 fl8_269 ⟨by decide, rfl⟩ rfl ?_
    refine T8_put (σ9 := (upd (upd (upd (upd (upd (upd (upd σ_1.1 48 (σ_1.1 41)) 49 (σ_1.1 42)) 50 (σ_1.1 43)) 51 (σ_1.1 44)) 52 (σ_1.1 45)) 53 (σ_1.1 46)) 21 (σ_1.1 20), σ_1.2.1, σ_1.2.2.1, σ_1.2.2.2)) hK hT dX8_regiment_66 fl8_396 ft8_21 rfl rfl ⟨by decide, rfl⟩ rfl ?_
    refine R_aload_n dX8_regiment_69 rfl ?_
    refine R_aload_n dX8_regiment_70 rfl ?_
    refine T8_get (x := σ_1.1 24) hT dX8_regiment_71 fl8_291 ⟨by decide, rfl⟩ rfl ?_
    refine T8_put (σ9 := (upd (upd (upd (upd (upd (upd (upd (upd σ_1.1 48 (σ_1.1 41)) 49 (σ_1.1 42)) 50 (σ_1.1 43)) 51 (σ_1.1 44)) 52 (σ_1.1 45)) 53 (σ_1.1 46)) 21 (σ_1.1 20)) 25 (σ_1.1 24), σ_1.2.1, σ_1.2.2.1, σ_1.2.2.2)) hK hT dX8_regiment_74 fl8_317 ft8_25 h.1 (isB_fit h.1) ⟨by decide, rfl⟩ rfl ?_
    replace h := h.2
    refine R_aload_n dX8_regiment_77 rfl ?_
    refine R_aload_n dX8_regiment_78 rfl ?_
    refine T8_get (x := σ_1.1 24) hT dX8_regiment_79 fl8_291 ⟨by decide, rfl⟩ rfl ?_
    have J4 : RnH [] G l mX8_regiment (d + 9) (fun v hp1 => v = r ∧ hp1 = tw T σ1 hp) noX 93 (.ref T :: [U_]) [.int (if (σ_1.1 24) = 0 then 0 else σ_1.1 17), .ref T] (tw T (upd (upd (upd (upd (upd (upd (upd (upd σ_1.1 48 (σ_1.1 41)) 49 (σ_1.1 42)) 50 (σ_1.1 43)) 51 (σ_1.1 44)) 52 (σ_1.1 45)) 53 (σ_1.1 46)) 21 (σ_1.1 20)) 25 (σ_1.1 24), σ_1.2.1, σ_1.2.2.1, σ_1.2.2.2) hp) 0 0 := by
      refine T8_put (σ9 := (upd (upd (upd (upd (upd (upd (upd (upd (upd σ_1.1 48 (σ_1.1 41)) 49 (σ_1.1 42)) 50 (σ_1.1 43)) 51 (σ_1.1 44)) 52 (σ_1.1 45)) 53 (σ_1.1 46)) 21 (σ_1.1 20)) 25 (σ_1.1 24)) 18 (if (σ_1.1 24) = 0 then 0 else σ_1.1 17), σ_1.2.1, σ_1.2.2.1, σ_1.2.2.2)) hK hT dX8_regiment_93 fl8_323 ft8_18 rfl rfl ⟨by decide, rfl⟩ rfl ?_
      refine R_iconst (v := 0) dX8_regiment_96 (by decide) ?_
      refine S_istore_n (ls1 := .ref T :: [.int 0]) dX8_regiment_97 (by decide) rfl rfl ?_
      exact h G l T hp hK hT
    refine R_if_eq 92 dX8_regiment_82 (by decide) (fun c6 => ?_) (fun c6 => ?_)
    · refine R_iconst (v := 0) dX8_regiment_92 (by decide) ?_
      simp only [if_pos c6] at J4
      first | exact J4 | (simp only [if_pos c6]; exact J4)
    · refine R_aload_n dX8_regiment_85 rfl ?_
      refine T8_get (x := σ_1.1 17) hT dX8_regiment_86 fl8_253 ⟨by decide, rfl⟩ rfl ?_
      refine R_goto 93 dX8_regiment_89 (by decide) ?_
      simp only [if_neg c6] at J4
      first | exact J4 | (simp only [if_neg c6]; exact J4)
  · replace h := h.2 c3
    refine R_iconst (v := (-1)) dX8_regiment_11 (by decide) ?_
    exact R_iret dX8_regiment_12 rfl rfl ⟨h.1.symm, by rw [h.2]⟩
theorem g8_regiment_98 {d : Nat} {v1 : Int32} {σ σ1 : S8} {r : Option Value} (h : (((σ.1 18) ≤ v1) → Rn8 mX8_regiment (d + 9) 138 [.int 0] (fun T => []) σ r σ1) ∧ ((¬ (σ.1 18) ≤ v1) → vp_in v1 320 ∧ (Rn8 mX8_regiment (d + 9) 98 [.int (v1 + 1)] (fun T => []) (σ.1, upA (upA σ.2.1 13 (upd (σ.2.1 13) v1.toNatClampNeg (σ.2.1 11 v1.toNatClampNeg))) 14 (upd (σ.2.1 14) v1.toNatClampNeg (σ.2.1 12 v1.toNatClampNeg)), σ.2.2.1, σ.2.2.2) r σ1))) : Rn8 mX8_regiment (d + 9) 98 [.int v1] (fun T => []) σ r σ1 := by
  intro G l T hp hK hT
  refine R_iload_n dX8_regiment_98 rfl ?_
  refine R_aload_n dX8_regiment_99 rfl ?_
  refine T8_get (x := σ.1 18) hT dX8_regiment_100 fl8_323 ⟨by decide, rfl⟩ rfl ?_
  refine R_icmp_ge 136 dX8_regiment_103 (by decide) (fun c1 => ?_) (fun c1 => ?_)
  · replace h := h.1 c1
    refine R_iconst (v := 0) dX8_regiment_136 (by decide) ?_
    refine S_istore_n (ls1 := .ref T :: [.int 0]) dX8_regiment_137 (by decide) rfl rfl ?_
    exact h G l T hp hK hT
  · replace h := h.2 c1
    refine R_aload_n dX8_regiment_106 rfl ?_
    refine T8_geta hT dX8_regiment_107 fl8_27 ⟨by decide, by decide, by decide⟩ ?_
    refine R_iload_n dX8_regiment_110 rfl ?_
    refine R_aload_n dX8_regiment_111 rfl ?_
    refine T8_geta hT dX8_regiment_112 fl8_21 ⟨by decide, by decide, by decide⟩ ?_
    refine R_iload_n dX8_regiment_115 rfl ?_
    have b2 := h.1
    replace h := h.2
    refine T8_iald (x := σ.2.1 11 v1.toNatClampNeg) hT dX8_regiment_116 ⟨by decide, rfl⟩ b2 rfl ?_
    refine T8_iast (σ9 := (σ.1, upA σ.2.1 13 (upd (σ.2.1 13) v1.toNatClampNeg (σ.2.1 11 v1.toNatClampNeg)), σ.2.2.1, σ.2.2.2)) hK hT dX8_regiment_117 ⟨by decide, rfl⟩ b2 rfl ?_
    refine R_aload_n dX8_regiment_118 rfl ?_
    refine T8_geta hT dX8_regiment_119 fl8_30 ⟨by decide, by decide, by decide⟩ ?_
    refine R_iload_n dX8_regiment_122 rfl ?_
    refine R_aload_n dX8_regiment_123 rfl ?_
    refine T8_geta hT dX8_regiment_124 fl8_24 ⟨by decide, by decide, by decide⟩ ?_
    refine R_iload_n dX8_regiment_127 rfl ?_
    refine T8_iald (x := σ.2.1 12 v1.toNatClampNeg) hT dX8_regiment_128 ⟨by decide, rfl⟩ b2 rfl ?_
    refine T8_iast (σ9 := (σ.1, upA (upA σ.2.1 13 (upd (σ.2.1 13) v1.toNatClampNeg (σ.2.1 11 v1.toNatClampNeg))) 14 (upd (σ.2.1 14) v1.toNatClampNeg (σ.2.1 12 v1.toNatClampNeg)), σ.2.2.1, σ.2.2.2)) hK hT dX8_regiment_129 ⟨by decide, rfl⟩ b2 rfl ?_
    refine S_iinc (v := v1 + 1) (ls1 := .ref T :: [.int (v1 + 1)]) dX8_regiment_130 rfl rfl (by decide) rfl rfl ?_
    refine R_goto 98 dX8_regiment_133 (by decide) ?_
    exact h G l T hp hK hT
theorem g8_regiment_138 {d : Nat} {v1 : Int32} {σ σ1 : S8} {r : Option Value} (h : (((σ.1 48) ≤ v1) → Rn8 mX8_regiment (d + 9) 190 [.int 0] (fun T => []) σ r σ1) ∧ ((¬ (σ.1 48) ≤ v1) → vp_in v1 6 ∧ (Rn8 mX8_regiment (d + 9) 138 [.int (v1 + 1)] (fun T => []) (σ.1, upA (upA (upA σ.2.1 34 (upd (σ.2.1 34) v1.toNatClampNeg (σ.2.1 27 v1.toNatClampNeg))) 35 (upd (σ.2.1 35) v1.toNatClampNeg (σ.2.1 28 v1.toNatClampNeg))) 36 (upd (σ.2.1 36) v1.toNatClampNeg (σ.2.1 29 v1.toNatClampNeg)), σ.2.2.1, σ.2.2.2) r σ1))) : Rn8 mX8_regiment (d + 9) 138 [.int v1] (fun T => []) σ r σ1 := by
  intro G l T hp hK hT
  refine R_iload_n dX8_regiment_138 rfl ?_
  refine R_aload_n dX8_regiment_139 rfl ?_
  refine T8_get (x := σ.1 48) hT dX8_regiment_140 fl8_387 ⟨by decide, rfl⟩ rfl ?_
  refine R_icmp_ge 188 dX8_regiment_143 (by decide) (fun c1 => ?_) (fun c1 => ?_)
  · replace h := h.1 c1
    refine R_iconst (v := 0) dX8_regiment_188 (by decide) ?_
    refine S_istore_n (ls1 := .ref T :: [.int 0]) dX8_regiment_189 (by decide) rfl rfl ?_
    exact h G l T hp hK hT
  · replace h := h.2 c1
    refine R_aload_n dX8_regiment_146 rfl ?_
    refine T8_geta hT dX8_regiment_147 fl8_63 ⟨by decide, by decide, by decide⟩ ?_
    refine R_iload_n dX8_regiment_150 rfl ?_
    refine R_aload_n dX8_regiment_151 rfl ?_
    refine T8_geta hT dX8_regiment_152 fl8_42 ⟨by decide, by decide, by decide⟩ ?_
    refine R_iload_n dX8_regiment_155 rfl ?_
    have b2 := h.1
    replace h := h.2
    refine T8_iald (x := σ.2.1 27 v1.toNatClampNeg) hT dX8_regiment_156 ⟨by decide, rfl⟩ b2 rfl ?_
    refine T8_iast (σ9 := (σ.1, upA σ.2.1 34 (upd (σ.2.1 34) v1.toNatClampNeg (σ.2.1 27 v1.toNatClampNeg)), σ.2.2.1, σ.2.2.2)) hK hT dX8_regiment_157 ⟨by decide, rfl⟩ b2 rfl ?_
    refine R_aload_n dX8_regiment_158 rfl ?_
    refine T8_geta hT dX8_regiment_159 fl8_66 ⟨by decide, by decide, by decide⟩ ?_
    refine R_iload_n dX8_regiment_162 rfl ?_
    refine R_aload_n dX8_regiment_163 rfl ?_
    refine T8_geta hT dX8_regiment_164 fl8_45 ⟨by decide, by decide, by decide⟩ ?_
    refine R_iload_n dX8_regiment_167 rfl ?_
    refine T8_iald (x := σ.2.1 28 v1.toNatClampNeg) hT dX8_regiment_168 ⟨by decide, rfl⟩ b2 rfl ?_
    refine T8_iast (σ9 := (σ.1, upA (upA σ.2.1 34 (upd (σ.2.1 34) v1.toNatClampNeg (σ.2.1 27 v1.toNatClampNeg))) 35 (upd (σ.2.1 35) v1.toNatClampNeg (σ.2.1 28 v1.toNatClampNeg)), σ.2.2.1, σ.2.2.2)) hK hT dX8_regiment_169 ⟨by decide, rfl⟩ b2 rfl ?_
    refine R_aload_n dX8_regiment_170 rfl ?_
    refine T8_geta hT dX8_regiment_171 fl8_69 ⟨by decide, by decide, by decide⟩ ?_
    refine R_iload_n dX8_regiment_174 rfl ?_
    refine R_aload_n dX8_regiment_175 rfl ?_
    refine T8_geta hT dX8_regiment_176 fl8_48 ⟨by decide, by decide, by decide⟩ ?_
    refine R_iload_n dX8_regiment_179 rfl ?_
    refine T8_iald (x := σ.2.1 29 v1.toNatClampNeg) hT dX8_regiment_180 ⟨by decide, rfl⟩ b2 rfl ?_
    refine T8_iast (σ9 := (σ.1, upA (upA (upA σ.2.1 34 (upd (σ.2.1 34) v1.toNatClampNeg (σ.2.1 27 v1.toNatClampNeg))) 35 (upd (σ.2.1 35) v1.toNatClampNeg (σ.2.1 28 v1.toNatClampNeg))) 36 (upd (σ.2.1 36) v1.toNatClampNeg (σ.2.1 29 v1.toNatClampNeg)), σ.2.2.1, σ.2.2.2)) hK hT dX8_regiment_181 ⟨by decide, rfl⟩ b2 rfl ?_
    refine S_iinc (v := v1 + 1) (ls1 := .ref T :: [.int (v1 + 1)]) dX8_regiment_182 rfl rfl (by decide) rfl rfl ?_
    refine R_goto 138 dX8_regiment_185 (by decide) ?_
    exact h G l T hp hK hT
theorem g8_regiment_190 {d : Nat} {v1 : Int32} {σ σ1 : S8} {r : Option Value} (h : (((σ.1 49) ≤ v1) → ∃ σ_2 : S8, Tw8 mX8_begin (d + 8) [] σ none σ_2 ∧ (∃ σ_4 : S8, Tw8 mX8_keepAir (d + 8) [] (σ_2.1, upA σ_2.2.1 60 (upd (σ_2.2.1 60) 38 (σ_2.1 47)), σ_2.2.2.1, σ_2.2.2.2) none σ_4 ∧ (Rn8 mX8_regiment (d + 9) 293 [.int 0] (fun T => []) (upd (upd (upd (upd σ_4.1 62 0) 63 0) 73 0) 67 0, σ_4.2.1, σ_4.2.2.1, σ_4.2.2.2) r σ1))) ∧ ((¬ (σ.1 49) ≤ v1) → vp_in v1 6 ∧ (Rn8 mX8_regiment (d + 9) 190 [.int (v1 + 1)] (fun T => []) (σ.1, upA (upA (upA (upA σ.2.1 37 (upd (σ.2.1 37) v1.toNatClampNeg (σ.2.1 30 v1.toNatClampNeg))) 38 (upd (σ.2.1 38) v1.toNatClampNeg (σ.2.1 31 v1.toNatClampNeg))) 39 (upd (σ.2.1 39) v1.toNatClampNeg (σ.2.1 32 v1.toNatClampNeg))) 40 (upd (σ.2.1 40) v1.toNatClampNeg (σ.2.1 33 v1.toNatClampNeg)), σ.2.2.1, σ.2.2.2) r σ1))) : Rn8 mX8_regiment (d + 9) 190 [.int v1] (fun T => []) σ r σ1 := by
  intro G l T hp hK hT
  refine R_iload_n dX8_regiment_190 rfl ?_
  refine R_aload_n dX8_regiment_191 rfl ?_
  refine T8_get (x := σ.1 49) hT dX8_regiment_192 fl8_390 ⟨by decide, rfl⟩ rfl ?_
  refine R_icmp_ge 252 dX8_regiment_195 (by decide) (fun c1 => ?_) (fun c1 => ?_)
  · replace h := h.1 c1
    refine R_aload_n dX8_regiment_252 rfl ?_
    obtain ⟨σ_2, e3, h⟩ := h
    refine T8_call [] hK hT dX8_regiment_253 cv8_399 rfl rfl rfl (Nat.le_of_ble_eq_true rfl) e3 ?_
    show RnH [] G l mX8_regiment (d + 9) (fun v hp1 => v = r ∧ hp1 = tw T σ1 hp) noX 256 (.ref T :: [.int v1]) [] (tw T σ_2 hp) 0 0
    refine R_aload_n dX8_regiment_256 rfl ?_
    refine T8_geta hT dX8_regiment_257 fl8_96 ⟨by decide, by decide, by decide⟩ ?_
    refine R_bipush (v := 38) dX8_regiment_260 (by decide) ?_
    refine R_aload_n dX8_regiment_262 rfl ?_
    refine T8_get (x := σ_2.1 47) hT dX8_regiment_263 fl8_378 ⟨by decide, rfl⟩ rfl ?_
    refine T8_iast (σ9 := (σ_2.1, upA σ_2.2.1 60 (upd (σ_2.2.1 60) 38 (σ_2.1 47)), σ_2.2.2.1, σ_2.2.2.2)) hK hT dX8_regiment_266 ⟨by decide, rfl⟩ (by unfold vp_in; decide) rfl ?_
    refine R_aload_n dX8_regiment_267 rfl ?_
    obtain ⟨σ_4, e5, h⟩ := h
    refine T8_call [] hK hT dX8_regiment_268 cv8_402 rfl rfl rfl (Nat.le_of_ble_eq_true rfl) e5 ?_
    show RnH [] G l mX8_regiment (d + 9) (fun v hp1 => v = r ∧ hp1 = tw T σ1 hp) noX 271 (.ref T :: [.int v1]) [] (tw T σ_4 hp) 0 0
    refine R_aload_n dX8_regiment_271 rfl ?_
    refine R_iconst (v := 0) dX8_regiment_272 (by decide) ?_
    refine T8_put (σ9 := (upd σ_4.1 62 0, σ_4.2.1, σ_4.2.2.1, σ_4.2.2.2)) hK hT dX8_regiment_273 fl8_405 ft8_62 rfl rfl ⟨by decide, rfl⟩ rfl ?_
    refine R_aload_n dX8_regiment_276 rfl ?_
    refine R_iconst (v := 0) dX8_regiment_277 (by decide) ?_
    refine T8_put (σ9 := (upd (upd σ_4.1 62 0) 63 0, σ_4.2.1, σ_4.2.2.1, σ_4.2.2.2)) hK hT dX8_regiment_278 fl8_408 ft8_63 rfl rfl ⟨by decide, rfl⟩ rfl ?_
    refine R_aload_n dX8_regiment_281 rfl ?_
    refine R_iconst (v := 0) dX8_regiment_282 (by decide) ?_
    refine T8_put (σ9 := (upd (upd (upd σ_4.1 62 0) 63 0) 73 0, σ_4.2.1, σ_4.2.2.1, σ_4.2.2.2)) hK hT dX8_regiment_283 fl8_411 ft8_73 rfl rfl ⟨by decide, rfl⟩ rfl ?_
    refine R_aload_n dX8_regiment_286 rfl ?_
    refine R_iconst (v := 0) dX8_regiment_287 (by decide) ?_
    refine T8_put (σ9 := (upd (upd (upd (upd σ_4.1 62 0) 63 0) 73 0) 67 0, σ_4.2.1, σ_4.2.2.1, σ_4.2.2.2)) hK hT dX8_regiment_288 fl8_414 ft8_67 rfl rfl ⟨by decide, rfl⟩ rfl ?_
    refine R_iconst (v := 0) dX8_regiment_291 (by decide) ?_
    refine S_istore_n (ls1 := .ref T :: [.int 0]) dX8_regiment_292 (by decide) rfl rfl ?_
    exact h G l T hp hK hT
  · replace h := h.2 c1
    refine R_aload_n dX8_regiment_198 rfl ?_
    refine T8_geta hT dX8_regiment_199 fl8_72 ⟨by decide, by decide, by decide⟩ ?_
    refine R_iload_n dX8_regiment_202 rfl ?_
    refine R_aload_n dX8_regiment_203 rfl ?_
    refine T8_geta hT dX8_regiment_204 fl8_51 ⟨by decide, by decide, by decide⟩ ?_
    refine R_iload_n dX8_regiment_207 rfl ?_
    have b6 := h.1
    replace h := h.2
    refine T8_iald (x := σ.2.1 30 v1.toNatClampNeg) hT dX8_regiment_208 ⟨by decide, rfl⟩ b6 rfl ?_
    refine T8_iast (σ9 := (σ.1, upA σ.2.1 37 (upd (σ.2.1 37) v1.toNatClampNeg (σ.2.1 30 v1.toNatClampNeg)), σ.2.2.1, σ.2.2.2)) hK hT dX8_regiment_209 ⟨by decide, rfl⟩ b6 rfl ?_
    refine R_aload_n dX8_regiment_210 rfl ?_
    refine T8_geta hT dX8_regiment_211 fl8_75 ⟨by decide, by decide, by decide⟩ ?_
    refine R_iload_n dX8_regiment_214 rfl ?_
    refine R_aload_n dX8_regiment_215 rfl ?_
    refine T8_geta hT dX8_regiment_216 fl8_54 ⟨by decide, by decide, by decide⟩ ?_
    refine R_iload_n dX8_regiment_219 rfl ?_
    refine T8_iald (x := σ.2.1 31 v1.toNatClampNeg) hT dX8_regiment_220 ⟨by decide, rfl⟩ b6 rfl ?_
    refine T8_iast (σ9 := (σ.1, upA (upA σ.2.1 37 (upd (σ.2.1 37) v1.toNatClampNeg (σ.2.1 30 v1.toNatClampNeg))) 38 (upd (σ.2.1 38) v1.toNatClampNeg (σ.2.1 31 v1.toNatClampNeg)), σ.2.2.1, σ.2.2.2)) hK hT dX8_regiment_221 ⟨by decide, rfl⟩ b6 rfl ?_
    refine R_aload_n dX8_regiment_222 rfl ?_
    refine T8_geta hT dX8_regiment_223 fl8_78 ⟨by decide, by decide, by decide⟩ ?_
    refine R_iload_n dX8_regiment_226 rfl ?_
    refine R_aload_n dX8_regiment_227 rfl ?_
    refine T8_geta hT dX8_regiment_228 fl8_57 ⟨by decide, by decide, by decide⟩ ?_
    refine R_iload_n dX8_regiment_231 rfl ?_
    refine T8_iald (x := σ.2.1 32 v1.toNatClampNeg) hT dX8_regiment_232 ⟨by decide, rfl⟩ b6 rfl ?_
    refine T8_iast (σ9 := (σ.1, upA (upA (upA σ.2.1 37 (upd (σ.2.1 37) v1.toNatClampNeg (σ.2.1 30 v1.toNatClampNeg))) 38 (upd (σ.2.1 38) v1.toNatClampNeg (σ.2.1 31 v1.toNatClampNeg))) 39 (upd (σ.2.1 39) v1.toNatClampNeg (σ.2.1 32 v1.toNatClampNeg)), σ.2.2.1, σ.2.2.2)) hK hT dX8_regiment_233 ⟨by decide, rfl⟩ b6 rfl ?_
    refine R_aload_n dX8_regiment_234 rfl ?_
    refine T8_geta hT dX8_regiment_235 fl8_81 ⟨by decide, by decide, by decide⟩ ?_
    refine R_iload_n dX8_regiment_238 rfl ?_
    refine R_aload_n dX8_regiment_239 rfl ?_
    refine T8_geta hT dX8_regiment_240 fl8_60 ⟨by decide, by decide, by decide⟩ ?_
    refine R_iload_n dX8_regiment_243 rfl ?_
    refine T8_iald (x := σ.2.1 33 v1.toNatClampNeg) hT dX8_regiment_244 ⟨by decide, rfl⟩ b6 rfl ?_
    refine T8_iast (σ9 := (σ.1, upA (upA (upA (upA σ.2.1 37 (upd (σ.2.1 37) v1.toNatClampNeg (σ.2.1 30 v1.toNatClampNeg))) 38 (upd (σ.2.1 38) v1.toNatClampNeg (σ.2.1 31 v1.toNatClampNeg))) 39 (upd (σ.2.1 39) v1.toNatClampNeg (σ.2.1 32 v1.toNatClampNeg))) 40 (upd (σ.2.1 40) v1.toNatClampNeg (σ.2.1 33 v1.toNatClampNeg)), σ.2.2.1, σ.2.2.2)) hK hT dX8_regiment_245 ⟨by decide, rfl⟩ b6 rfl ?_
    refine S_iinc (v := v1 + 1) (ls1 := .ref T :: [.int (v1 + 1)]) dX8_regiment_246 rfl rfl (by decide) rfl rfl ?_
    refine R_goto 190 dX8_regiment_249 (by decide) ?_
    exact h G l T hp hK hT
theorem g8_regiment_293 {d : Nat} {v1 : Int32} {σ σ1 : S8} {r : Option Value} (h : ((3 ≤ v1) → r = some (.int (σ.1 48)) ∧ σ1 = σ) ∧ ((¬ 3 ≤ v1) → vp_in v1 3 ∧ (Rn8 mX8_regiment (d + 9) 293 [.int (v1 + 1)] (fun T => []) (σ.1, upA σ.2.1 77 (upd (σ.2.1 77) v1.toNatClampNeg 0), σ.2.2.1, σ.2.2.2) r σ1))) : Rn8 mX8_regiment (d + 9) 293 [.int v1] (fun T => []) σ r σ1 := by
  intro G l T hp hK hT
  refine R_iload_n dX8_regiment_293 rfl ?_
  refine R_iconst (v := 3) dX8_regiment_294 (by decide) ?_
  refine R_icmp_ge 311 dX8_regiment_295 (by decide) (fun c1 => ?_) (fun c1 => ?_)
  · replace h := h.1 c1
    refine R_aload_n dX8_regiment_311 rfl ?_
    refine T8_get (x := σ.1 48) hT dX8_regiment_312 fl8_387 ⟨by decide, rfl⟩ rfl ?_
    exact R_iret dX8_regiment_315 rfl rfl ⟨h.1.symm, by rw [h.2]⟩
  · replace h := h.2 c1
    refine R_aload_n dX8_regiment_298 rfl ?_
    refine T8_geta hT dX8_regiment_299 fl8_133 ⟨by decide, by decide, by decide⟩ ?_
    refine R_iload_n dX8_regiment_302 rfl ?_
    refine R_iconst (v := 0) dX8_regiment_303 (by decide) ?_
    refine T8_zast (σ9 := (σ.1, upA σ.2.1 77 (upd (σ.2.1 77) v1.toNatClampNeg 0), σ.2.2.1, σ.2.2.2)) hK hT dX8_regiment_304 ⟨by decide, rfl⟩ rfl h.1 rfl ?_
    replace h := h.2
    refine S_iinc (v := v1 + 1) (ls1 := .ref T :: [.int (v1 + 1)]) dX8_regiment_305 rfl rfl (by decide) rfl rfl ?_
    refine R_goto 293 dX8_regiment_308 (by decide) ?_
    exact h G l T hp hK hT
