/-! printed: segments of the twin's statics with loops or switches -/
set_option maxRecDepth 100000
theorem g8_done_0 {d : Nat} {v0 : Int32} {v1 : Int32} {v2 : Int32} {r : Option Value} (h : ((v0.toInt < 37 ∨ 62 < v0.toInt) → r = some (.int (s8_truth (if v1 = 0 then if v2 = 0 then 0 else 1 else 1)))) ∧ (v0 = 37 → ((¬ v2 = 0) → (¬ v2 = 0) ∧ (r = some (.int (v1 - v1 / v2 * v2)))) ∧ ((v2 = 0) → r = some (.int 0))) ∧ (v0 = 38 → r = some (.int (s8_truth (if v1 = 0 then 0 else if v2 = 0 then 0 else 1)))) ∧ (v0 = 39 → r = some (.int (s8_truth (if v1 = 0 then if v2 = 0 then 0 else 1 else 1)))) ∧ (v0 = 40 → r = some (.int (s8_truth (if v1 = 0 then if v2 = 0 then 0 else 1 else 1)))) ∧ (v0 = 41 → r = some (.int (s8_truth (if v1 = 0 then if v2 = 0 then 0 else 1 else 1)))) ∧ (v0 = 42 → r = some (.int (v1 * v2))) ∧ (v0 = 43 → r = some (.int (v1 + v2))) ∧ (v0 = 44 → r = some (.int (s8_truth (if v1 = 0 then if v2 = 0 then 0 else 1 else 1)))) ∧ (v0 = 45 → r = some (.int (v1 - v2))) ∧ (v0 = 46 → r = some (.int (s8_truth (if v1 = 0 then if v2 = 0 then 0 else 1 else 1)))) ∧ (v0 = 47 → ((¬ v2 = 0) → (¬ v2 = 0) ∧ (r = some (.int (v1 / v2)))) ∧ ((v2 = 0) → r = some (.int 0))) ∧ (v0 = 48 → r = some (.int (s8_truth (if v1 = 0 then if v2 = 0 then 0 else 1 else 1)))) ∧ (v0 = 49 → r = some (.int (s8_truth (if v1 = 0 then if v2 = 0 then 0 else 1 else 1)))) ∧ (v0 = 50 → r = some (.int (s8_truth (if v1 = 0 then if v2 = 0 then 0 else 1 else 1)))) ∧ (v0 = 51 → r = some (.int (s8_truth (if v1 = 0 then if v2 = 0 then 0 else 1 else 1)))) ∧ (v0 = 52 → r = some (.int (s8_truth (if v1 = 0 then if v2 = 0 then 0 else 1 else 1)))) ∧ (v0 = 53 → r = some (.int (s8_truth (if v1 = 0 then if v2 = 0 then 0 else 1 else 1)))) ∧ (v0 = 54 → r = some (.int (s8_truth (if v1 = 0 then if v2 = 0 then 0 else 1 else 1)))) ∧ (v0 = 55 → r = some (.int (s8_truth (if v1 = 0 then if v2 = 0 then 0 else 1 else 1)))) ∧ (v0 = 56 → r = some (.int (s8_truth (if v1 = 0 then if v2 = 0 then 0 else 1 else 1)))) ∧ (v0 = 57 → r = some (.int (s8_truth (if v1 = 0 then if v2 = 0 then 0 else 1 else 1)))) ∧ (v0 = 58 → r = some (.int (s8_truth (if v1 = 0 then if v2 = 0 then 0 else 1 else 1)))) ∧ (v0 = 59 → r = some (.int (s8_truth (if v1 = 0 then if v2 = 0 then 0 else 1 else 1)))) ∧ (v0 = 60 → r = some (.int (s8_truth (if v2 ≤ v1 then 0 else 1)))) ∧ (v0 = 61 → r = some (.int (s8_truth (if v1 = v2 then 1 else 0)))) ∧ (v0 = 62 → r = some (.int (s8_truth (if v1 ≤ v2 then 0 else 1))))) : RnS mX8_done (d + 2) 0 [.int v0, .int v1, .int v2] [] r := by
  intro G l hp
  refine R_iload_n dX8_done_0 rfl ?_
  by_cases hlo : v0.toInt < 37 ∨ 62 < v0.toInt
  · replace h := h.1 hlo
    refine R_tabOut 215 dX8_done_1 hlo (by decide) ?_
    refine R_iload_n dX8_done_215 rfl ?_
    have J1 : RnH [] G l mX8_done (d + 2) (fun v hp1 => v = r ∧ hp1 = hp) noX 228 [.int v0, .int v1, .int v2] [.int (if v1 = 0 then if v2 = 0 then 0 else 1 else 1)] hp 0 0 := by
      refine T8_callS [.int (if v1 = 0 then if v2 = 0 then 0 else 1 else 1)] dX8_done_228 cs8_310 rfl rfl (Nat.le_of_ble_eq_true rfl) (st8_truth (d + 0) (if v1 = 0 then if v2 = 0 then 0 else 1 else 1)) ?_
      show RnH [] G l mX8_done (d + 2) (fun v hp1 => v = r ∧ hp1 = hp) noX 231 [.int v0, .int v1, .int v2] [.int (s8_truth (if v1 = 0 then if v2 = 0 then 0 else 1 else 1))] hp 0 0
      exact R_iret dX8_done_231 rfl rfl ⟨h.symm, rfl⟩
    refine R_if_ne 223 dX8_done_216 (by decide) (fun c3 => ?_) (fun c3 => ?_)
    · refine R_iconst (v := 1) dX8_done_223 (by decide) ?_
      refine R_goto 228 dX8_done_224 (by decide) ?_
      simp only [if_neg c3] at J1
      first | exact J1 | (simp only [if_neg c3]; exact J1)
    · refine R_iload_n dX8_done_219 rfl ?_
      refine R_if_eq 227 dX8_done_220 (by decide) (fun c4 => ?_) (fun c4 => ?_)
      · refine R_iconst (v := 0) dX8_done_227 (by decide) ?_
        simp only [if_pos c3, if_pos c4] at J1
        first | exact J1 | (simp only [if_pos c3, if_pos c4]; exact J1)
      · refine R_iconst (v := 1) dX8_done_223 (by decide) ?_
        refine R_goto 228 dX8_done_224 (by decide) ?_
        simp only [if_pos c3, if_neg c4] at J1
        first | exact J1 | (simp only [if_pos c3, if_neg c4]; exact J1)
  · replace h := h.2
    rcases (show v0.toInt = 37 ∨ v0.toInt = 38 ∨ v0.toInt = 39 ∨ v0.toInt = 40 ∨ v0.toInt = 41 ∨ v0.toInt = 42 ∨ v0.toInt = 43 ∨ v0.toInt = 44 ∨ v0.toInt = 45 ∨ v0.toInt = 46 ∨ v0.toInt = 47 ∨ v0.toInt = 48 ∨ v0.toInt = 49 ∨ v0.toInt = 50 ∨ v0.toInt = 51 ∨ v0.toInt = 52 ∨ v0.toInt = 53 ∨ v0.toInt = 54 ∨ v0.toInt = 55 ∨ v0.toInt = 56 ∨ v0.toInt = 57 ∨ v0.toInt = 58 ∨ v0.toInt = 59 ∨ v0.toInt = 60 ∨ v0.toInt = 61 ∨ v0.toInt = 62 by omega) with e9 | e9 | e9 | e9 | e9 | e9 | e9 | e9 | e9 | e9 | e9 | e9 | e9 | e9 | e9 | e9 | e9 | e9 | e9 | e9 | e9 | e9 | e9 | e9 | e9 | e9
    · replace e9 : v0 = 37 := Int32.toInt_inj.mp (e9.trans (by decide))
      replace h := h.1 e9
      subst e9
      refine R_tabIn 144 dX8_done_1 (by decide) (by decide) rfl (by decide) ?_
      refine R_iload_n dX8_done_144 rfl ?_
      refine R_if_ne 152 dX8_done_145 (by decide) (fun c5 => ?_) (fun c5 => ?_)
      · replace h := h.1 c5
        refine R_iload_n dX8_done_152 rfl ?_
        refine R_iload_n dX8_done_153 rfl ?_
        refine R_irem dX8_done_154 h.1 ?_
        replace h := h.2
        exact R_iret dX8_done_155 rfl rfl ⟨h.symm, rfl⟩
      · replace h := h.2 c5
        refine R_iconst (v := 0) dX8_done_148 (by decide) ?_
        refine R_goto 155 dX8_done_149 (by decide) ?_
        exact R_iret dX8_done_155 rfl rfl ⟨h.symm, rfl⟩
    · replace e9 : v0 = 38 := Int32.toInt_inj.mp (e9.trans (by decide))
      replace h := h.2.1 e9
      subst e9
      refine R_tabIn 198 dX8_done_1 (by decide) (by decide) rfl (by decide) ?_
      refine R_iload_n dX8_done_198 rfl ?_
      have J6 : RnH [] G l mX8_done (d + 2) (fun v hp1 => v = r ∧ hp1 = hp) noX 211 [.int 38, .int v1, .int v2] [.int (if v1 = 0 then 0 else if v2 = 0 then 0 else 1)] hp 0 0 := by
        refine T8_callS [.int (if v1 = 0 then 0 else if v2 = 0 then 0 else 1)] dX8_done_211 cs8_310 rfl rfl (Nat.le_of_ble_eq_true rfl) (st8_truth (d + 0) (if v1 = 0 then 0 else if v2 = 0 then 0 else 1)) ?_
        show RnH [] G l mX8_done (d + 2) (fun v hp1 => v = r ∧ hp1 = hp) noX 214 [.int 38, .int v1, .int v2] [.int (s8_truth (if v1 = 0 then 0 else if v2 = 0 then 0 else 1))] hp 0 0
        exact R_iret dX8_done_214 rfl rfl ⟨h.symm, rfl⟩
      refine R_if_eq 210 dX8_done_199 (by decide) (fun c8 => ?_) (fun c8 => ?_)
      · refine R_iconst (v := 0) dX8_done_210 (by decide) ?_
        simp only [if_pos c8] at J6
        first | exact J6 | (simp only [if_pos c8]; exact J6)
      · refine R_iload_n dX8_done_202 rfl ?_
        refine R_if_eq 210 dX8_done_203 (by decide) (fun c9 => ?_) (fun c9 => ?_)
        · refine R_iconst (v := 0) dX8_done_210 (by decide) ?_
          simp only [if_neg c8, if_pos c9] at J6
          first | exact J6 | (simp only [if_neg c8, if_pos c9]; exact J6)
        · refine R_iconst (v := 1) dX8_done_206 (by decide) ?_
          refine R_goto 211 dX8_done_207 (by decide) ?_
          simp only [if_neg c8, if_neg c9] at J6
          first | exact J6 | (simp only [if_neg c8, if_neg c9]; exact J6)
    · replace e9 : v0 = 39 := Int32.toInt_inj.mp (e9.trans (by decide))
      replace h := h.2.2.1 e9
      subst e9
      refine R_tabIn 215 dX8_done_1 (by decide) (by decide) rfl (by decide) ?_
      refine R_iload_n dX8_done_215 rfl ?_
      have J10 : RnH [] G l mX8_done (d + 2) (fun v hp1 => v = r ∧ hp1 = hp) noX 228 [.int 39, .int v1, .int v2] [.int (if v1 = 0 then if v2 = 0 then 0 else 1 else 1)] hp 0 0 := by
        refine T8_callS [.int (if v1 = 0 then if v2 = 0 then 0 else 1 else 1)] dX8_done_228 cs8_310 rfl rfl (Nat.le_of_ble_eq_true rfl) (st8_truth (d + 0) (if v1 = 0 then if v2 = 0 then 0 else 1 else 1)) ?_
        show RnH [] G l mX8_done (d + 2) (fun v hp1 => v = r ∧ hp1 = hp) noX 231 [.int 39, .int v1, .int v2] [.int (s8_truth (if v1 = 0 then if v2 = 0 then 0 else 1 else 1))] hp 0 0
        exact R_iret dX8_done_231 rfl rfl ⟨h.symm, rfl⟩
      refine R_if_ne 223 dX8_done_216 (by decide) (fun c12 => ?_) (fun c12 => ?_)
      · refine R_iconst (v := 1) dX8_done_223 (by decide) ?_
        refine R_goto 228 dX8_done_224 (by decide) ?_
        simp only [if_neg c12] at J10
        first | exact J10 | (simp only [if_neg c12]; exact J10)
      · refine R_iload_n dX8_done_219 rfl ?_
        refine R_if_eq 227 dX8_done_220 (by decide) (fun c13 => ?_) (fun c13 => ?_)
        · refine R_iconst (v := 0) dX8_done_227 (by decide) ?_
          simp only [if_pos c12, if_pos c13] at J10
          first | exact J10 | (simp only [if_pos c12, if_pos c13]; exact J10)
        · refine R_iconst (v := 1) dX8_done_223 (by decide) ?_
          refine R_goto 228 dX8_done_224 (by decide) ?_
          simp only [if_pos c12, if_neg c13] at J10
          first | exact J10 | (simp only [if_pos c12, if_neg c13]; exact J10)
    · replace e9 : v0 = 40 := Int32.toInt_inj.mp (e9.trans (by decide))
      replace h := h.2.2.2.1 e9
      subst e9
      refine R_tabIn 215 dX8_done_1 (by decide) (by decide) rfl (by decide) ?_
      refine R_iload_n dX8_done_215 rfl ?_
      have J14 : RnH [] G l mX8_done (d + 2) (fun v hp1 => v = r ∧ hp1 = hp) noX 228 [.int 40, .int v1, .int v2] [.int (if v1 = 0 then if v2 = 0 then 0 else 1 else 1)] hp 0 0 := by
        refine T8_callS [.int (if v1 = 0 then if v2 = 0 then 0 else 1 else 1)] dX8_done_228 cs8_310 rfl rfl (Nat.le_of_ble_eq_true rfl) (st8_truth (d + 0) (if v1 = 0 then if v2 = 0 then 0 else 1 else 1)) ?_
        show RnH [] G l mX8_done (d + 2) (fun v hp1 => v = r ∧ hp1 = hp) noX 231 [.int 40, .int v1, .int v2] [.int (s8_truth (if v1 = 0 then if v2 = 0 then 0 else 1 else 1))] hp 0 0
        exact R_iret dX8_done_231 rfl rfl ⟨h.symm, rfl⟩
      refine R_if_ne 223 dX8_done_216 (by decide) (fun c16 => ?_) (fun c16 => ?_)
      · refine R_iconst (v := 1) dX8_done_223 (by decide) ?_
        refine R_goto 228 dX8_done_224 (by decide) ?_
        simp only [if_neg c16] at J14
        first | exact J14 | (simp only [if_neg c16]; exact J14)
      · refine R_iload_n dX8_done_219 rfl ?_
        refine R_if_eq 227 dX8_done_220 (by decide) (fun c17 => ?_) (fun c17 => ?_)
        · refine R_iconst (v := 0) dX8_done_227 (by decide) ?_
          simp only [if_pos c16, if_pos c17] at J14
          first | exact J14 | (simp only [if_pos c16, if_pos c17]; exact J14)
        · refine R_iconst (v := 1) dX8_done_223 (by decide) ?_
          refine R_goto 228 dX8_done_224 (by decide) ?_
          simp only [if_pos c16, if_neg c17] at J14
          first | exact J14 | (simp only [if_pos c16, if_neg c17]; exact J14)
    · replace e9 : v0 = 41 := Int32.toInt_inj.mp (e9.trans (by decide))
      replace h := h.2.2.2.2.1 e9
      subst e9
      refine R_tabIn 215 dX8_done_1 (by decide) (by decide) rfl (by decide) ?_
      refine R_iload_n dX8_done_215 rfl ?_
      have J18 : RnH [] G l mX8_done (d + 2) (fun v hp1 => v = r ∧ hp1 = hp) noX 228 [.int 41, .int v1, .int v2] [.int (if v1 = 0 then if v2 = 0 then 0 else 1 else 1)] hp 0 0 := by
        refine T8_callS [.int (if v1 = 0 then if v2 = 0 then 0 else 1 else 1)] dX8_done_228 cs8_310 rfl rfl (Nat.le_of_ble_eq_true rfl) (st8_truth (d + 0) (if v1 = 0 then if v2 = 0 then 0 else 1 else 1)) ?_
        show RnH [] G l mX8_done (d + 2) (fun v hp1 => v = r ∧ hp1 = hp) noX 231 [.int 41, .int v1, .int v2] [.int (s8_truth (if v1 = 0 then if v2 = 0 then 0 else 1 else 1))] hp 0 0
        exact R_iret dX8_done_231 rfl rfl ⟨h.symm, rfl⟩
      refine R_if_ne 223 dX8_done_216 (by decide) (fun c20 => ?_) (fun c20 => ?_)
      · refine R_iconst (v := 1) dX8_done_223 (by decide) ?_
        refine R_goto 228 dX8_done_224 (by decide) ?_
        simp only [if_neg c20] at J18
        first | exact J18 | (simp only [if_neg c20]; exact J18)
      · refine R_iload_n dX8_done_219 rfl ?_
        refine R_if_eq 227 dX8_done_220 (by decide) (fun c21 => ?_) (fun c21 => ?_)
        · refine R_iconst (v := 0) dX8_done_227 (by decide) ?_
          simp only [if_pos c20, if_pos c21] at J18
          first | exact J18 | (simp only [if_pos c20, if_pos c21]; exact J18)
        · refine R_iconst (v := 1) dX8_done_223 (by decide) ?_
          refine R_goto 228 dX8_done_224 (by decide) ?_
          simp only [if_pos c20, if_neg c21] at J18
          first | exact J18 | (simp only [if_pos c20, if_neg c21]; exact J18)
    · replace e9 : v0 = 42 := Int32.toInt_inj.mp (e9.trans (by decide))
      replace h := h.2.2.2.2.2.1 e9
      subst e9
      refine R_tabIn 128 dX8_done_1 (by decide) (by decide) rfl (by decide) ?_
      refine R_iload_n dX8_done_128 rfl ?_
      refine R_iload_n dX8_done_129 rfl ?_
      refine R_imul dX8_done_130 ?_
      exact R_iret dX8_done_131 rfl rfl ⟨h.symm, rfl⟩
    · replace e9 : v0 = 43 := Int32.toInt_inj.mp (e9.trans (by decide))
      replace h := h.2.2.2.2.2.2.1 e9
      subst e9
      refine R_tabIn 120 dX8_done_1 (by decide) (by decide) rfl (by decide) ?_
      refine R_iload_n dX8_done_120 rfl ?_
      refine R_iload_n dX8_done_121 rfl ?_
      refine R_iadd dX8_done_122 ?_
      exact R_iret dX8_done_123 rfl rfl ⟨h.symm, rfl⟩
    · replace e9 : v0 = 44 := Int32.toInt_inj.mp (e9.trans (by decide))
      replace h := h.2.2.2.2.2.2.2.1 e9
      subst e9
      refine R_tabIn 215 dX8_done_1 (by decide) (by decide) rfl (by decide) ?_
      refine R_iload_n dX8_done_215 rfl ?_
      have J22 : RnH [] G l mX8_done (d + 2) (fun v hp1 => v = r ∧ hp1 = hp) noX 228 [.int 44, .int v1, .int v2] [.int (if v1 = 0 then if v2 = 0 then 0 else 1 else 1)] hp 0 0 := by
        refine T8_callS [.int (if v1 = 0 then if v2 = 0 then 0 else 1 else 1)] dX8_done_228 cs8_310 rfl rfl (Nat.le_of_ble_eq_true rfl) (st8_truth (d + 0) (if v1 = 0 then if v2 = 0 then 0 else 1 else 1)) ?_
        show RnH [] G l mX8_done (d + 2) (fun v hp1 => v = r ∧ hp1 = hp) noX 231 [.int 44, .int v1, .int v2] [.int (s8_truth (if v1 = 0 then if v2 = 0 then 0 else 1 else 1))] hp 0 0
        exact R_iret dX8_done_231 rfl rfl ⟨h.symm, rfl⟩
      refine R_if_ne 223 dX8_done_216 (by decide) (fun c24 => ?_) (fun c24 => ?_)
      · refine R_iconst (v := 1) dX8_done_223 (by decide) ?_
        refine R_goto 228 dX8_done_224 (by decide) ?_
        simp only [if_neg c24] at J22
        first | exact J22 | (simp only [if_neg c24]; exact J22)
      · refine R_iload_n dX8_done_219 rfl ?_
        refine R_if_eq 227 dX8_done_220 (by decide) (fun c25 => ?_) (fun c25 => ?_)
        · refine R_iconst (v := 0) dX8_done_227 (by decide) ?_
          simp only [if_pos c24, if_pos c25] at J22
          first | exact J22 | (simp only [if_pos c24, if_pos c25]; exact J22)
        · refine R_iconst (v := 1) dX8_done_223 (by decide) ?_
          refine R_goto 228 dX8_done_224 (by decide) ?_
          simp only [if_pos c24, if_neg c25] at J22
          first | exact J22 | (simp only [if_pos c24, if_neg c25]; exact J22)
    · replace e9 : v0 = 45 := Int32.toInt_inj.mp (e9.trans (by decide))
      replace h := h.2.2.2.2.2.2.2.2.1 e9
      subst e9
      refine R_tabIn 124 dX8_done_1 (by decide) (by decide) rfl (by decide) ?_
      refine R_iload_n dX8_done_124 rfl ?_
      refine R_iload_n dX8_done_125 rfl ?_
      refine R_isub dX8_done_126 ?_
      exact R_iret dX8_done_127 rfl rfl ⟨h.symm, rfl⟩
    · replace e9 : v0 = 46 := Int32.toInt_inj.mp (e9.trans (by decide))
      replace h := h.2.2.2.2.2.2.2.2.2.1 e9
      subst e9
      refine R_tabIn 215 dX8_done_1 (by decide) (by decide) rfl (by decide) ?_
      refine R_iload_n dX8_done_215 rfl ?_
      have J26 : RnH [] G l mX8_done (d + 2) (fun v hp1 => v = r ∧ hp1 = hp) noX 228 [.int 46, .int v1, .int v2] [.int (if v1 = 0 then if v2 = 0 then 0 else 1 else 1)] hp 0 0 := by
        refine T8_callS [.int (if v1 = 0 then if v2 = 0 then 0 else 1 else 1)] dX8_done_228 cs8_310 rfl rfl (Nat.le_of_ble_eq_true rfl) (st8_truth (d + 0) (if v1 = 0 then if v2 = 0 then 0 else 1 else 1)) ?_
        show RnH [] G l mX8_done (d + 2) (fun v hp1 => v = r ∧ hp1 = hp) noX 231 [.int 46, .int v1, .int v2] [.int (s8_truth (if v1 = 0 then if v2 = 0 then 0 else 1 else 1))] hp 0 0
        exact R_iret dX8_done_231 rfl rfl ⟨h.symm, rfl⟩
      refine R_if_ne 223 dX8_done_216 (by decide) (fun c28 => ?_) (fun c28 => ?_)
      · refine R_iconst (v := 1) dX8_done_223 (by decide) ?_
        refine R_goto 228 dX8_done_224 (by decide) ?_
        simp only [if_neg c28] at J26
        first | exact J26 | (simp only [if_neg c28]; exact J26)
      · refine R_iload_n dX8_done_219 rfl ?_
        refine R_if_eq 227 dX8_done_220 (by decide) (fun c29 => ?_) (fun c29 => ?_)
        · refine R_iconst (v := 0) dX8_done_227 (by decide) ?_
          simp only [if_pos c28, if_pos c29] at J26
          first | exact J26 | (simp only [if_pos c28, if_pos c29]; exact J26)
        · refine R_iconst (v := 1) dX8_done_223 (by decide) ?_
          refine R_goto 228 dX8_done_224 (by decide) ?_
          simp only [if_pos c28, if_neg c29] at J26
          first | exact J26 | (simp only [if_pos c28, if_neg c29]; exact J26)
    · replace e9 : v0 = 47 := Int32.toInt_inj.mp (e9.trans (by decide))
      replace h := h.2.2.2.2.2.2.2.2.2.2.1 e9
      subst e9
      refine R_tabIn 132 dX8_done_1 (by decide) (by decide) rfl (by decide) ?_
      refine R_iload_n dX8_done_132 rfl ?_
      refine R_if_ne 140 dX8_done_133 (by decide) (fun c30 => ?_) (fun c30 => ?_)
      · replace h := h.1 c30
        refine R_iload_n dX8_done_140 rfl ?_
        refine R_iload_n dX8_done_141 rfl ?_
        refine R_idiv dX8_done_142 h.1 ?_
        replace h := h.2
        exact R_iret dX8_done_143 rfl rfl ⟨h.symm, rfl⟩
      · replace h := h.2 c30
        refine R_iconst (v := 0) dX8_done_136 (by decide) ?_
        refine R_goto 143 dX8_done_137 (by decide) ?_
        exact R_iret dX8_done_143 rfl rfl ⟨h.symm, rfl⟩
    · replace e9 : v0 = 48 := Int32.toInt_inj.mp (e9.trans (by decide))
      replace h := h.2.2.2.2.2.2.2.2.2.2.2.1 e9
      subst e9
      refine R_tabIn 215 dX8_done_1 (by decide) (by decide) rfl (by decide) ?_
      refine R_iload_n dX8_done_215 rfl ?_
      have J31 : RnH [] G l mX8_done (d + 2) (fun v hp1 => v = r ∧ hp1 = hp) noX 228 [.int 48, .int v1, .int v2] [.int (if v1 = 0 then if v2 = 0 then 0 else 1 else 1)] hp 0 0 := by
        refine T8_callS [.int (if v1 = 0 then if v2 = 0 then 0 else 1 else 1)] dX8_done_228 cs8_310 rfl rfl (Nat.le_of_ble_eq_true rfl) (st8_truth (d + 0) (if v1 = 0 then if v2 = 0 then 0 else 1 else 1)) ?_
        show RnH [] G l mX8_done (d + 2) (fun v hp1 => v = r ∧ hp1 = hp) noX 231 [.int 48, .int v1, .int v2] [.int (s8_truth (if v1 = 0 then if v2 = 0 then 0 else 1 else 1))] hp 0 0
        exact R_iret dX8_done_231 rfl rfl ⟨h.symm, rfl⟩
      refine R_if_ne 223 dX8_done_216 (by decide) (fun c33 => ?_) (fun c33 => ?_)
      · refine R_iconst (v := 1) dX8_done_223 (by decide) ?_
        refine R_goto 228 dX8_done_224 (by decide) ?_
        simp only [if_neg c33] at J31
        first | exact J31 | (simp only [if_neg c33]; exact J31)
      · refine R_iload_n dX8_done_219 rfl ?_
        refine R_if_eq 227 dX8_done_220 (by decide) (fun c34 => ?_) (fun c34 => ?_)
        · refine R_iconst (v := 0) dX8_done_227 (by decide) ?_
          simp only [if_pos c33, if_pos c34] at J31
          first | exact J31 | (simp only [if_pos c33, if_pos c34]; exact J31)
        · refine R_iconst (v := 1) dX8_done_223 (by decide) ?_
          refine R_goto 228 dX8_done_224 (by decide) ?_
          simp only [if_pos c33, if_neg c34] at J31
          first | exact J31 | (simp only [if_pos c33, if_neg c34]; exact J31)
    · replace e9 : v0 = 49 := Int32.toInt_inj.mp (e9.trans (by decide))
      replace h := h.2.2.2.2.2.2.2.2.2.2.2.2.1 e9
      subst e9
      refine R_tabIn 215 dX8_done_1 (by decide) (by decide) rfl (by decide) ?_
      refine R_iload_n dX8_done_215 rfl ?_
      have J35 : RnH [] G l mX8_done (d + 2) (fun v hp1 => v = r ∧ hp1 = hp) noX 228 [.int 49, .int v1, .int v2] [.int (if v1 = 0 then if v2 = 0 then 0 else 1 else 1)] hp 0 0 := by
        refine T8_callS [.int (if v1 = 0 then if v2 = 0 then 0 else 1 else 1)] dX8_done_228 cs8_310 rfl rfl (Nat.le_of_ble_eq_true rfl) (st8_truth (d + 0) (if v1 = 0 then if v2 = 0 then 0 else 1 else 1)) ?_
        show RnH [] G l mX8_done (d + 2) (fun v hp1 => v = r ∧ hp1 = hp) noX 231 [.int 49, .int v1, .int v2] [.int (s8_truth (if v1 = 0 then if v2 = 0 then 0 else 1 else 1))] hp 0 0
        exact R_iret dX8_done_231 rfl rfl ⟨h.symm, rfl⟩
      refine R_if_ne 223 dX8_done_216 (by decide) (fun c37 => ?_) (fun c37 => ?_)
      · refine R_iconst (v := 1) dX8_done_223 (by decide) ?_
        refine R_goto 228 dX8_done_224 (by decide) ?_
        simp only [if_neg c37] at J35
        first | exact J35 | (simp only [if_neg c37]; exact J35)
      · refine R_iload_n dX8_done_219 rfl ?_
        refine R_if_eq 227 dX8_done_220 (by decide) (fun c38 => ?_) (fun c38 => ?_)
        · refine R_iconst (v := 0) dX8_done_227 (by decide) ?_
          simp only [if_pos c37, if_pos c38] at J35
          first | exact J35 | (simp only [if_pos c37, if_pos c38]; exact J35)
        · refine R_iconst (v := 1) dX8_done_223 (by decide) ?_
          refine R_goto 228 dX8_done_224 (by decide) ?_
          simp only [if_pos c37, if_neg c38] at J35
          first | exact J35 | (simp only [if_pos c37, if_neg c38]; exact J35)
    · replace e9 : v0 = 50 := Int32.toInt_inj.mp (e9.trans (by decide))
      replace h := h.2.2.2.2.2.2.2.2.2.2.2.2.2.1 e9
      subst e9
      refine R_tabIn 215 dX8_done_1 (by decide) (by decide) rfl (by decide) ?_
      refine R_iload_n dX8_done_215 rfl ?_
      have J39 : RnH [] G l mX8_done (d + 2) (fun v hp1 => v = r ∧ hp1 = hp) noX 228 [.int 50, .int v1, .int v2] [.int (if v1 = 0 then if v2 = 0 then 0 else 1 else 1)] hp 0 0 := by
        refine T8_callS [.int (if v1 = 0 then if v2 = 0 then 0 else 1 else 1)] dX8_done_228 cs8_310 rfl rfl (Nat.le_of_ble_eq_true rfl) (st8_truth (d + 0) (if v1 = 0 then if v2 = 0 then 0 else 1 else 1)) ?_
        show RnH [] G l mX8_done (d + 2) (fun v hp1 => v = r ∧ hp1 = hp) noX 231 [.int 50, .int v1, .int v2] [.int (s8_truth (if v1 = 0 then if v2 = 0 then 0 else 1 else 1))] hp 0 0
        exact R_iret dX8_done_231 rfl rfl ⟨h.symm, rfl⟩
      refine R_if_ne 223 dX8_done_216 (by decide) (fun c41 => ?_) (fun c41 => ?_)
      · refine R_iconst (v := 1) dX8_done_223 (by decide) ?_
        refine R_goto 228 dX8_done_224 (by decide) ?_
        simp only [if_neg c41] at J39
        first | exact J39 | (simp only [if_neg c41]; exact J39)
      · refine R_iload_n dX8_done_219 rfl ?_
        refine R_if_eq 227 dX8_done_220 (by decide) (fun c42 => ?_) (fun c42 => ?_)
        · refine R_iconst (v := 0) dX8_done_227 (by decide) ?_
          simp only [if_pos c41, if_pos c42] at J39
          first | exact J39 | (simp only [if_pos c41, if_pos c42]; exact J39)
        · refine R_iconst (v := 1) dX8_done_223 (by decide) ?_
          refine R_goto 228 dX8_done_224 (by decide) ?_
          simp only [if_pos c41, if_neg c42] at J39
          first | exact J39 | (simp only [if_pos c41, if_neg c42]; exact J39)
    · replace e9 : v0 = 51 := Int32.toInt_inj.mp (e9.trans (by decide))
      replace h := h.2.2.2.2.2.2.2.2.2.2.2.2.2.2.1 e9
      subst e9
      refine R_tabIn 215 dX8_done_1 (by decide) (by decide) rfl (by decide) ?_
      refine R_iload_n dX8_done_215 rfl ?_
      have J43 : RnH [] G l mX8_done (d + 2) (fun v hp1 => v = r ∧ hp1 = hp) noX 228 [.int 51, .int v1, .int v2] [.int (if v1 = 0 then if v2 = 0 then 0 else 1 else 1)] hp 0 0 := by
        refine T8_callS [.int (if v1 = 0 then if v2 = 0 then 0 else 1 else 1)] dX8_done_228 cs8_310 rfl rfl (Nat.le_of_ble_eq_true rfl) (st8_truth (d + 0) (if v1 = 0 then if v2 = 0 then 0 else 1 else 1)) ?_
        show RnH [] G l mX8_done (d + 2) (fun v hp1 => v = r ∧ hp1 = hp) noX 231 [.int 51, .int v1, .int v2] [.int (s8_truth (if v1 = 0 then if v2 = 0 then 0 else 1 else 1))] hp 0 0
        exact R_iret dX8_done_231 rfl rfl ⟨h.symm, rfl⟩
      refine R_if_ne 223 dX8_done_216 (by decide) (fun c45 => ?_) (fun c45 => ?_)
      · refine R_iconst (v := 1) dX8_done_223 (by decide) ?_
        refine R_goto 228 dX8_done_224 (by decide) ?_
        simp only [if_neg c45] at J43
        first | exact J43 | (simp only [if_neg c45]; exact J43)
      · refine R_iload_n dX8_done_219 rfl ?_
        refine R_if_eq 227 dX8_done_220 (by decide) (fun c46 => ?_) (fun c46 => ?_)
        · refine R_iconst (v := 0) dX8_done_227 (by decide) ?_
          simp only [if_pos c45, if_pos c46] at J43
          first | exact J43 | (simp only [if_pos c45, if_pos c46]; exact J43)
        · refine R_iconst (v := 1) dX8_done_223 (by decide) ?_
          refine R_goto 228 dX8_done_224 (by decide) ?_
          simp only [if_pos c45, if_neg c46] at J43
          first | exact J43 | (simp only [if_pos c45, if_neg c46]; exact J43)
    · replace e9 : v0 = 52 := Int32.toInt_inj.mp (e9.trans (by decide))
      replace h := h.2.2.2.2.2.2.2.2.2.2.2.2.2.2.2.1 e9
      subst e9
      refine R_tabIn 215 dX8_done_1 (by decide) (by decide) rfl (by decide) ?_
      refine R_iload_n dX8_done_215 rfl ?_
      have J47 : RnH [] G l mX8_done (d + 2) (fun v hp1 => v = r ∧ hp1 = hp) noX 228 [.int 52, .int v1, .int v2] [.int (if v1 = 0 then if v2 = 0 then 0 else 1 else 1)] hp 0 0 := by
        refine T8_callS [.int (if v1 = 0 then if v2 = 0 then 0 else 1 else 1)] dX8_done_228 cs8_310 rfl rfl (Nat.le_of_ble_eq_true rfl) (st8_truth (d + 0) (if v1 = 0 then if v2 = 0 then 0 else 1 else 1)) ?_
        show RnH [] G l mX8_done (d + 2) (fun v hp1 => v = r ∧ hp1 = hp) noX 231 [.int 52, .int v1, .int v2] [.int (s8_truth (if v1 = 0 then if v2 = 0 then 0 else 1 else 1))] hp 0 0
        exact R_iret dX8_done_231 rfl rfl ⟨h.symm, rfl⟩
      refine R_if_ne 223 dX8_done_216 (by decide) (fun c49 => ?_) (fun c49 => ?_)
      · refine R_iconst (v := 1) dX8_done_223 (by decide) ?_
        refine R_goto 228 dX8_done_224 (by decide) ?_
        simp only [if_neg c49] at J47
        first | exact J47 | (simp only [if_neg c49]; exact J47)
      · refine R_iload_n dX8_done_219 rfl ?_
        refine R_if_eq 227 dX8_done_220 (by decide) (fun c50 => ?_) (fun c50 => ?_)
        · refine R_iconst (v := 0) dX8_done_227 (by decide) ?_
          simp only [if_pos c49, if_pos c50] at J47
          first | exact J47 | (simp only [if_pos c49, if_pos c50]; exact J47)
        · refine R_iconst (v := 1) dX8_done_223 (by decide) ?_
          refine R_goto 228 dX8_done_224 (by decide) ?_
          simp only [if_pos c49, if_neg c50] at J47
          first | exact J47 | (simp only [if_pos c49, if_neg c50]; exact J47)
    · replace e9 : v0 = 53 := Int32.toInt_inj.mp (e9.trans (by decide))
      replace h := h.2.2.2.2.2.2.2.2.2.2.2.2.2.2.2.2.1 e9
      subst e9
      refine R_tabIn 215 dX8_done_1 (by decide) (by decide) rfl (by decide) ?_
      refine R_iload_n dX8_done_215 rfl ?_
      have J51 : RnH [] G l mX8_done (d + 2) (fun v hp1 => v = r ∧ hp1 = hp) noX 228 [.int 53, .int v1, .int v2] [.int (if v1 = 0 then if v2 = 0 then 0 else 1 else 1)] hp 0 0 := by
        refine T8_callS [.int (if v1 = 0 then if v2 = 0 then 0 else 1 else 1)] dX8_done_228 cs8_310 rfl rfl (Nat.le_of_ble_eq_true rfl) (st8_truth (d + 0) (if v1 = 0 then if v2 = 0 then 0 else 1 else 1)) ?_
        show RnH [] G l mX8_done (d + 2) (fun v hp1 => v = r ∧ hp1 = hp) noX 231 [.int 53, .int v1, .int v2] [.int (s8_truth (if v1 = 0 then if v2 = 0 then 0 else 1 else 1))] hp 0 0
        exact R_iret dX8_done_231 rfl rfl ⟨h.symm, rfl⟩
      refine R_if_ne 223 dX8_done_216 (by decide) (fun c53 => ?_) (fun c53 => ?_)
      · refine R_iconst (v := 1) dX8_done_223 (by decide) ?_
        refine R_goto 228 dX8_done_224 (by decide) ?_
        simp only [if_neg c53] at J51
        first | exact J51 | (simp only [if_neg c53]; exact J51)
      · refine R_iload_n dX8_done_219 rfl ?_
        refine R_if_eq 227 dX8_done_220 (by decide) (fun c54 => ?_) (fun c54 => ?_)
        · refine R_iconst (v := 0) dX8_done_227 (by decide) ?_
          simp only [if_pos c53, if_pos c54] at J51
          first | exact J51 | (simp only [if_pos c53, if_pos c54]; exact J51)
        · refine R_iconst (v := 1) dX8_done_223 (by decide) ?_
          refine R_goto 228 dX8_done_224 (by decide) ?_
          simp only [if_pos c53, if_neg c54] at J51
          first | exact J51 | (simp only [if_pos c53, if_neg c54]; exact J51)
    · replace e9 : v0 = 54 := Int32.toInt_inj.mp (e9.trans (by decide))
      replace h := h.2.2.2.2.2.2.2.2.2.2.2.2.2.2.2.2.2.1 e9
      subst e9
      refine R_tabIn 215 dX8_done_1 (by decide) (by decide) rfl (by decide) ?_
      refine R_iload_n dX8_done_215 rfl ?_
      have J55 : RnH [] G l mX8_done (d + 2) (fun v hp1 => v = r ∧ hp1 = hp) noX 228 [.int 54, .int v1, .int v2] [.int (if v1 = 0 then if v2 = 0 then 0 else 1 else 1)] hp 0 0 := by
        refine T8_callS [.int (if v1 = 0 then if v2 = 0 then 0 else 1 else 1)] dX8_done_228 cs8_310 rfl rfl (Nat.le_of_ble_eq_true rfl) (st8_truth (d + 0) (if v1 = 0 then if v2 = 0 then 0 else 1 else 1)) ?_
        show RnH [] G l mX8_done (d + 2) (fun v hp1 => v = r ∧ hp1 = hp) noX 231 [.int 54, .int v1, .int v2] [.int (s8_truth (if v1 = 0 then if v2 = 0 then 0 else 1 else 1))] hp 0 0
        exact R_iret dX8_done_231 rfl rfl ⟨h.symm, rfl⟩
      refine R_if_ne 223 dX8_done_216 (by decide) (fun c57 => ?_) (fun c57 => ?_)
      · refine R_iconst (v := 1) dX8_done_223 (by decide) ?_
        refine R_goto 228 dX8_done_224 (by decide) ?_
        simp only [if_neg c57] at J55
        first | exact J55 | (simp only [if_neg c57]; exact J55)
      · refine R_iload_n dX8_done_219 rfl ?_
        refine R_if_eq 227 dX8_done_220 (by decide) (fun c58 => ?_) (fun c58 => ?_)
        · refine R_iconst (v := 0) dX8_done_227 (by decide) ?_
          simp only [if_pos c57, if_pos c58] at J55
          first | exact J55 | (simp only [if_pos c57, if_pos c58]; exact J55)
        · refine R_iconst (v := 1) dX8_done_223 (by decide) ?_
          refine R_goto 228 dX8_done_224 (by decide) ?_
          simp only [if_pos c57, if_neg c58] at J55
          first | exact J55 | (simp only [if_pos c57, if_neg c58]; exact J55)
    · replace e9 : v0 = 55 := Int32.toInt_inj.mp (e9.trans (by decide))
      replace h := h.2.2.2.2.2.2.2.2.2.2.2.2.2.2.2.2.2.2.1 e9
      subst e9
      refine R_tabIn 215 dX8_done_1 (by decide) (by decide) rfl (by decide) ?_
      refine R_iload_n dX8_done_215 rfl ?_
      have J59 : RnH [] G l mX8_done (d + 2) (fun v hp1 => v = r ∧ hp1 = hp) noX 228 [.int 55, .int v1, .int v2] [.int (if v1 = 0 then if v2 = 0 then 0 else 1 else 1)] hp 0 0 := by
        refine T8_callS [.int (if v1 = 0 then if v2 = 0 then 0 else 1 else 1)] dX8_done_228 cs8_310 rfl rfl (Nat.le_of_ble_eq_true rfl) (st8_truth (d + 0) (if v1 = 0 then if v2 = 0 then 0 else 1 else 1)) ?_
        show RnH [] G l mX8_done (d + 2) (fun v hp1 => v = r ∧ hp1 = hp) noX 231 [.int 55, .int v1, .int v2] [.int (s8_truth (if v1 = 0 then if v2 = 0 then 0 else 1 else 1))] hp 0 0
        exact R_iret dX8_done_231 rfl rfl ⟨h.symm, rfl⟩
      refine R_if_ne 223 dX8_done_216 (by decide) (fun c61 => ?_) (fun c61 => ?_)
      · refine R_iconst (v := 1) dX8_done_223 (by decide) ?_
        refine R_goto 228 dX8_done_224 (by decide) ?_
        simp only [if_neg c61] at J59
        first | exact J59 | (simp only [if_neg c61]; exact J59)
      · refine R_iload_n dX8_done_219 rfl ?_
        refine R_if_eq 227 dX8_done_220 (by decide) (fun c62 => ?_) (fun c62 => ?_)
        · refine R_iconst (v := 0) dX8_done_227 (by decide) ?_
          simp only [if_pos c61, if_pos c62] at J59
          first | exact J59 | (simp only [if_pos c61, if_pos c62]; exact J59)
        · refine R_iconst (v := 1) dX8_done_223 (by decide) ?_
          refine R_goto 228 dX8_done_224 (by decide) ?_
          simp only [if_pos c61, if_neg c62] at J59
          first | exact J59 | (simp only [if_pos c61, if_neg c62]; exact J59)
    · replace e9 : v0 = 56 := Int32.toInt_inj.mp (e9.trans (by decide))
      replace h := h.2.2.2.2.2.2.2.2.2.2.2.2.2.2.2.2.2.2.2.1 e9
      subst e9
      refine R_tabIn 215 dX8_done_1 (by decide) (by decide) rfl (by decide) ?_
      refine R_iload_n dX8_done_215 rfl ?_
      have J63 : RnH [] G l mX8_done (d + 2) (fun v hp1 => v = r ∧ hp1 = hp) noX 228 [.int 56, .int v1, .int v2] [.int (if v1 = 0 then if v2 = 0 then 0 else 1 else 1)] hp 0 0 := by
        refine T8_callS [.int (if v1 = 0 then if v2 = 0 then 0 else 1 else 1)] dX8_done_228 cs8_310 rfl rfl (Nat.le_of_ble_eq_true rfl) (st8_truth (d + 0) (if v1 = 0 then if v2 = 0 then 0 else 1 else 1)) ?_
        show RnH [] G l mX8_done (d + 2) (fun v hp1 => v = r ∧ hp1 = hp) noX 231 [.int 56, .int v1, .int v2] [.int (s8_truth (if v1 = 0 then if v2 = 0 then 0 else 1 else 1))] hp 0 0
        exact R_iret dX8_done_231 rfl rfl ⟨h.symm, rfl⟩
      refine R_if_ne 223 dX8_done_216 (by decide) (fun c65 => ?_) (fun c65 => ?_)
      · refine R_iconst (v := 1) dX8_done_223 (by decide) ?_
        refine R_goto 228 dX8_done_224 (by decide) ?_
        simp only [if_neg c65] at J63
        first | exact J63 | (simp only [if_neg c65]; exact J63)
      · refine R_iload_n dX8_done_219 rfl ?_
        refine R_if_eq 227 dX8_done_220 (by decide) (fun c66 => ?_) (fun c66 => ?_)
        · refine R_iconst (v := 0) dX8_done_227 (by decide) ?_
          simp only [if_pos c65, if_pos c66] at J63
          first | exact J63 | (simp only [if_pos c65, if_pos c66]; exact J63)
        · refine R_iconst (v := 1) dX8_done_223 (by decide) ?_
          refine R_goto 228 dX8_done_224 (by decide) ?_
          simp only [if_pos c65, if_neg c66] at J63
          first | exact J63 | (simp only [if_pos c65, if_neg c66]; exact J63)
    · replace e9 : v0 = 57 := Int32.toInt_inj.mp (e9.trans (by decide))
      replace h := h.2.2.2.2.2.2.2.2.2.2.2.2.2.2.2.2.2.2.2.2.1 e9
      subst e9
      refine R_tabIn 215 dX8_done_1 (by decide) (by decide) rfl (by decide) ?_
      refine R_iload_n dX8_done_215 rfl ?_
      have J67 : RnH [] G l mX8_done (d + 2) (fun v hp1 => v = r ∧ hp1 = hp) noX 228 [.int 57, .int v1, .int v2] [.int (if v1 = 0 then if v2 = 0 then 0 else 1 else 1)] hp 0 0 := by
        refine T8_callS [.int (if v1 = 0 then if v2 = 0 then 0 else 1 else 1)] dX8_done_228 cs8_310 rfl rfl (Nat.le_of_ble_eq_true rfl) (st8_truth (d + 0) (if v1 = 0 then if v2 = 0 then 0 else 1 else 1)) ?_
        show RnH [] G l mX8_done (d + 2) (fun v hp1 => v = r ∧ hp1 = hp) noX 231 [.int 57, .int v1, .int v2] [.int (s8_truth (if v1 = 0 then if v2 = 0 then 0 else 1 else 1))] hp 0 0
        exact R_iret dX8_done_231 rfl rfl ⟨h.symm, rfl⟩
      refine R_if_ne 223 dX8_done_216 (by decide) (fun c69 => ?_) (fun c69 => ?_)
      · refine R_iconst (v := 1) dX8_done_223 (by decide) ?_
        refine R_goto 228 dX8_done_224 (by decide) ?_
        simp only [if_neg c69] at J67
        first | exact J67 | (simp only [if_neg c69]; exact J67)
      · refine R_iload_n dX8_done_219 rfl ?_
        refine R_if_eq 227 dX8_done_220 (by decide) (fun c70 => ?_) (fun c70 => ?_)
        · refine R_iconst (v := 0) dX8_done_227 (by decide) ?_
          simp only [if_pos c69, if_pos c70] at J67
          first | exact J67 | (simp only [if_pos c69, if_pos c70]; exact J67)
        · refine R_iconst (v := 1) dX8_done_223 (by decide) ?_
          refine R_goto 228 dX8_done_224 (by decide) ?_
          simp only [if_pos c69, if_neg c70] at J67
          first | exact J67 | (simp only [if_pos c69, if_neg c70]; exact J67)
    · replace e9 : v0 = 58 := Int32.toInt_inj.mp (e9.trans (by decide))
      replace h := h.2.2.2.2.2.2.2.2.2.2.2.2.2.2.2.2.2.2.2.2.2.1 e9
      subst e9
      refine R_tabIn 215 dX8_done_1 (by decide) (by decide) rfl (by decide) ?_
      refine R_iload_n dX8_done_215 rfl ?_
      have J71 : RnH [] G l mX8_done (d + 2) (fun v hp1 => v = r ∧ hp1 = hp) noX 228 [.int 58, .int v1, .int v2] [.int (if v1 = 0 then if v2 = 0 then 0 else 1 else 1)] hp 0 0 := by
        refine T8_callS [.int (if v1 = 0 then if v2 = 0 then 0 else 1 else 1)] dX8_done_228 cs8_310 rfl rfl (Nat.le_of_ble_eq_true rfl) (st8_truth (d + 0) (if v1 = 0 then if v2 = 0 then 0 else 1 else 1)) ?_
        show RnH [] G l mX8_done (d + 2) (fun v hp1 => v = r ∧ hp1 = hp) noX 231 [.int 58, .int v1, .int v2] [.int (s8_truth (if v1 = 0 then if v2 = 0 then 0 else 1 else 1))] hp 0 0
        exact R_iret dX8_done_231 rfl rfl ⟨h.symm, rfl⟩
      refine R_if_ne 223 dX8_done_216 (by decide) (fun c73 => ?_) (fun c73 => ?_)
      · refine R_iconst (v := 1) dX8_done_223 (by decide) ?_
        refine R_goto 228 dX8_done_224 (by decide) ?_
        simp only [if_neg c73] at J71
        first | exact J71 | (simp only [if_neg c73]; exact J71)
      · refine R_iload_n dX8_done_219 rfl ?_
        refine R_if_eq 227 dX8_done_220 (by decide) (fun c74 => ?_) (fun c74 => ?_)
        · refine R_iconst (v := 0) dX8_done_227 (by decide) ?_
          simp only [if_pos c73, if_pos c74] at J71
          first | exact J71 | (simp only [if_pos c73, if_pos c74]; exact J71)
        · refine R_iconst (v := 1) dX8_done_223 (by decide) ?_
          refine R_goto 228 dX8_done_224 (by decide) ?_
          simp only [if_pos c73, if_neg c74] at J71
          first | exact J71 | (simp only [if_pos c73, if_neg c74]; exact J71)
    · replace e9 : v0 = 59 := Int32.toInt_inj.mp (e9.trans (by decide))
      replace h := h.2.2.2.2.2.2.2.2.2.2.2.2.2.2.2.2.2.2.2.2.2.2.1 e9
      subst e9
      refine R_tabIn 215 dX8_done_1 (by decide) (by decide) rfl (by decide) ?_
      refine R_iload_n dX8_done_215 rfl ?_
      have J75 : RnH [] G l mX8_done (d + 2) (fun v hp1 => v = r ∧ hp1 = hp) noX 228 [.int 59, .int v1, .int v2] [.int (if v1 = 0 then if v2 = 0 then 0 else 1 else 1)] hp 0 0 := by
        refine T8_callS [.int (if v1 = 0 then if v2 = 0 then 0 else 1 else 1)] dX8_done_228 cs8_310 rfl rfl (Nat.le_of_ble_eq_true rfl) (st8_truth (d + 0) (if v1 = 0 then if v2 = 0 then 0 else 1 else 1)) ?_
        show RnH [] G l mX8_done (d + 2) (fun v hp1 => v = r ∧ hp1 = hp) noX 231 [.int 59, .int v1, .int v2] [.int (s8_truth (if v1 = 0 then if v2 = 0 then 0 else 1 else 1))] hp 0 0
        exact R_iret dX8_done_231 rfl rfl ⟨h.symm, rfl⟩
      refine R_if_ne 223 dX8_done_216 (by decide) (fun c77 => ?_) (fun c77 => ?_)
      · refine R_iconst (v := 1) dX8_done_223 (by decide) ?_
        refine R_goto 228 dX8_done_224 (by decide) ?_
        simp only [if_neg c77] at J75
        first | exact J75 | (simp only [if_neg c77]; exact J75)
      · refine R_iload_n dX8_done_219 rfl ?_
        refine R_if_eq 227 dX8_done_220 (by decide) (fun c78 => ?_) (fun c78 => ?_)
        · refine R_iconst (v := 0) dX8_done_227 (by decide) ?_
          simp only [if_pos c77, if_pos c78] at J75
          first | exact J75 | (simp only [if_pos c77, if_pos c78]; exact J75)
        · refine R_iconst (v := 1) dX8_done_223 (by decide) ?_
          refine R_goto 228 dX8_done_224 (by decide) ?_
          simp only [if_pos c77, if_neg c78] at J75
          first | exact J75 | (simp only [if_pos c77, if_neg c78]; exact J75)
    · replace e9 : v0 = 60 := Int32.toInt_inj.mp (e9.trans (by decide))
      replace h := h.2.2.2.2.2.2.2.2.2.2.2.2.2.2.2.2.2.2.2.2.2.2.2.1 e9
      subst e9
      refine R_tabIn 156 dX8_done_1 (by decide) (by decide) rfl (by decide) ?_
      refine R_iload_n dX8_done_156 rfl ?_
      refine R_iload_n dX8_done_157 rfl ?_
      have J79 : RnH [] G l mX8_done (d + 2) (fun v hp1 => v = r ∧ hp1 = hp) noX 166 [.int 60, .int v1, .int v2] [.int (if v2 ≤ v1 then 0 else 1)] hp 0 0 := by
        refine T8_callS [.int (if v2 ≤ v1 then 0 else 1)] dX8_done_166 cs8_310 rfl rfl (Nat.le_of_ble_eq_true rfl) (st8_truth (d + 0) (if v2 ≤ v1 then 0 else 1)) ?_
        show RnH [] G l mX8_done (d + 2) (fun v hp1 => v = r ∧ hp1 = hp) noX 169 [.int 60, .int v1, .int v2] [.int (s8_truth (if v2 ≤ v1 then 0 else 1))] hp 0 0
        exact R_iret dX8_done_169 rfl rfl ⟨h.symm, rfl⟩
      refine R_icmp_ge 165 dX8_done_158 (by decide) (fun c81 => ?_) (fun c81 => ?_)
      · refine R_iconst (v := 0) dX8_done_165 (by decide) ?_
        simp only [if_pos c81] at J79
        first | exact J79 | (simp only [if_pos c81]; exact J79)
      · refine R_iconst (v := 1) dX8_done_161 (by decide) ?_
        refine R_goto 166 dX8_done_162 (by decide) ?_
        simp only [if_neg c81] at J79
        first | exact J79 | (simp only [if_neg c81]; exact J79)
    · replace e9 : v0 = 61 := Int32.toInt_inj.mp (e9.trans (by decide))
      replace h := h.2.2.2.2.2.2.2.2.2.2.2.2.2.2.2.2.2.2.2.2.2.2.2.2.1 e9
      subst e9
      refine R_tabIn 184 dX8_done_1 (by decide) (by decide) rfl (by decide) ?_
      refine R_iload_n dX8_done_184 rfl ?_
      refine R_iload_n dX8_done_185 rfl ?_
      have J82 : RnH [] G l mX8_done (d + 2) (fun v hp1 => v = r ∧ hp1 = hp) noX 194 [.int 61, .int v1, .int v2] [.int (if v1 = v2 then 1 else 0)] hp 0 0 := by
        refine T8_callS [.int (if v1 = v2 then 1 else 0)] dX8_done_194 cs8_310 rfl rfl (Nat.le_of_ble_eq_true rfl) (st8_truth (d + 0) (if v1 = v2 then 1 else 0)) ?_
        show RnH [] G l mX8_done (d + 2) (fun v hp1 => v = r ∧ hp1 = hp) noX 197 [.int 61, .int v1, .int v2] [.int (s8_truth (if v1 = v2 then 1 else 0))] hp 0 0
        exact R_iret dX8_done_197 rfl rfl ⟨h.symm, rfl⟩
      refine R_icmp_ne 193 dX8_done_186 (by decide) (fun c84 => ?_) (fun c84 => ?_)
      · refine R_iconst (v := 0) dX8_done_193 (by decide) ?_
        simp only [if_neg c84] at J82
        first | exact J82 | (simp only [if_neg c84]; exact J82)
      · refine R_iconst (v := 1) dX8_done_189 (by decide) ?_
        refine R_goto 194 dX8_done_190 (by decide) ?_
        simp only [if_pos c84] at J82
        first | exact J82 | (simp only [if_pos c84]; exact J82)
    · replace e9 : v0 = 62 := Int32.toInt_inj.mp (e9.trans (by decide))
      replace h := h.2.2.2.2.2.2.2.2.2.2.2.2.2.2.2.2.2.2.2.2.2.2.2.2.2 e9
      subst e9
      refine R_tabIn 170 dX8_done_1 (by decide) (by decide) rfl (by decide) ?_
      refine R_iload_n dX8_done_170 rfl ?_
      refine R_iload_n dX8_done_171 rfl ?_
      have J85 : RnH [] G l mX8_done (d + 2) (fun v hp1 => v = r ∧ hp1 = hp) noX 180 [.int 62, .int v1, .int v2] [.int (if v1 ≤ v2 then 0 else 1)] hp 0 0 := by
        refine T8_callS [.int (if v1 ≤ v2 then 0 else 1)] dX8_done_180 cs8_310 rfl rfl (Nat.le_of_ble_eq_true rfl) (st8_truth (d + 0) (if v1 ≤ v2 then 0 else 1)) ?_
        show RnH [] G l mX8_done (d + 2) (fun v hp1 => v = r ∧ hp1 = hp) noX 183 [.int 62, .int v1, .int v2] [.int (s8_truth (if v1 ≤ v2 then 0 else 1))] hp 0 0
        exact R_iret dX8_done_183 rfl rfl ⟨h.symm, rfl⟩
      refine R_icmp_le 179 dX8_done_172 (by decide) (fun c87 => ?_) (fun c87 => ?_)
      · refine R_iconst (v := 0) dX8_done_179 (by decide) ?_
        simp only [if_pos c87] at J85
        first | exact J85 | (simp only [if_pos c87]; exact J85)
      · refine R_iconst (v := 1) dX8_done_175 (by decide) ?_
        refine R_goto 180 dX8_done_176 (by decide) ?_
        simp only [if_neg c87] at J85
        first | exact J85 | (simp only [if_neg c87]; exact J85)
theorem g8_members_0 {d : Nat} {v0 : Int32} {r : Option Value} (h : RnS mX8_members (d + 1) 4 [.int v0, .int 0, .int 0] [] r) : RnS mX8_members (d + 1) 0 [.int v0, U_, U_] [] r := by
  intro G l hp
  refine R_iconst (v := 0) dX8_members_0 (by decide) ?_
  refine S_istore_n (ls1 := [.int v0, .int 0, U_]) dX8_members_1 (by decide) rfl rfl ?_
  refine R_iconst (v := 0) dX8_members_2 (by decide) ?_
  refine S_istore_n (ls1 := [.int v0, .int 0, .int 0]) dX8_members_3 (by decide) rfl rfl ?_
  exact h G l hp
theorem g8_members_4 {d : Nat} {v0 : Int32} {v1 : Int32} {v2 : Int32} {r : Option Value} (h : ((6 ≤ v2) → r = some (.int v1)) ∧ ((¬ 6 ≤ v2) → RnS mX8_members (d + 1) 4 [.int v0, .int (v1 + ((v0 >>> (v2 &&& 31)) &&& 1)), .int (v2 + 1)] [] r)) : RnS mX8_members (d + 1) 4 [.int v0, .int v1, .int v2] [] r := by
  intro G l hp
  refine R_iload_n dX8_members_4 rfl ?_
  refine R_bipush (v := 6) dX8_members_5 (by decide) ?_
  refine R_icmp_ge 24 dX8_members_7 (by decide) (fun c1 => ?_) (fun c1 => ?_)
  · replace h := h.1 c1
    refine R_iload_n dX8_members_24 rfl ?_
    exact R_iret dX8_members_25 rfl rfl ⟨h.symm, rfl⟩
  · replace h := h.2 c1
    refine R_iload_n dX8_members_10 rfl ?_
    refine R_iload_n dX8_members_11 rfl ?_
    refine R_iload_n dX8_members_12 rfl ?_
    refine R_ishr dX8_members_13 ?_
    refine R_iconst (v := 1) dX8_members_14 (by decide) ?_
    refine R_iand dX8_members_15 ?_
    refine R_iadd dX8_members_16 ?_
    refine S_istore_n (ls1 := [.int v0, .int (v1 + ((v0 >>> (v2 &&& 31)) &&& 1)), .int v2]) dX8_members_17 (by decide) rfl rfl ?_
    refine S_iinc (v := v2 + 1) (ls1 := [.int v0, .int (v1 + ((v0 >>> (v2 &&& 31)) &&& 1)), .int (v2 + 1)]) dX8_members_18 rfl rfl (by decide) rfl rfl ?_
    refine R_goto 4 dX8_members_21 (by decide) ?_
    exact h G l hp
theorem g8_power_0 {d : Nat} {v0 : Int32} {v1 : Int32} {r : Option Value} (h : RnS mX8_power (d + 1) 4 [.int v0, .int v1, .int 1, .int 0] [] r) : RnS mX8_power (d + 1) 0 [.int v0, .int v1, U_, U_] [] r := by
  intro G l hp
  refine R_iconst (v := 1) dX8_power_0 (by decide) ?_
  refine S_istore_n (ls1 := [.int v0, .int v1, .int 1, U_]) dX8_power_1 (by decide) rfl rfl ?_
  refine R_iconst (v := 0) dX8_power_2 (by decide) ?_
  refine S_istore_n (ls1 := [.int v0, .int v1, .int 1, .int 0]) dX8_power_3 (by decide) rfl rfl ?_
  exact h G l hp
theorem g8_power_4 {d : Nat} {v0 : Int32} {v1 : Int32} {v2 : Int32} {v3 : Int32} {r : Option Value} (h : ((v1 ≤ v3) → r = some (.int v2)) ∧ ((¬ v1 ≤ v3) → RnS mX8_power (d + 1) 4 [.int v0, .int v1, .int (v2 * v0), .int (v3 + 1)] [] r)) : RnS mX8_power (d + 1) 4 [.int v0, .int v1, .int v2, .int v3] [] r := by
  intro G l hp
  refine R_iload_n dX8_power_4 rfl ?_
  refine R_iload_n dX8_power_5 rfl ?_
  refine R_icmp_ge 19 dX8_power_6 (by decide) (fun c1 => ?_) (fun c1 => ?_)
  · replace h := h.1 c1
    refine R_iload_n dX8_power_19 rfl ?_
    exact R_iret dX8_power_20 rfl rfl ⟨h.symm, rfl⟩
  · replace h := h.2 c1
    refine R_iload_n dX8_power_9 rfl ?_
    refine R_iload_n dX8_power_10 rfl ?_
    refine R_imul dX8_power_11 ?_
    refine S_istore_n (ls1 := [.int v0, .int v1, .int (v2 * v0), .int v3]) dX8_power_12 (by decide) rfl rfl ?_
    refine S_iinc (v := v3 + 1) (ls1 := [.int v0, .int v1, .int (v2 * v0), .int (v3 + 1)]) dX8_power_13 rfl rfl (by decide) rfl rfl ?_
    refine R_goto 4 dX8_power_16 (by decide) ?_
    exact h G l hp
theorem g8_divisor_0 {d : Nat} {v0 : Int32} {v1 : Int32} {r : Option Value} (h : RnS mX8_divisor (d + 1) 4 [.int v0, .int v1, .int v0, .int v1, U_] [] r) : RnS mX8_divisor (d + 1) 0 [.int v0, .int v1, U_, U_, U_] [] r := by
  intro G l hp
  refine R_iload_n dX8_divisor_0 rfl ?_
  refine S_istore_n (ls1 := [.int v0, .int v1, .int v0, U_, U_]) dX8_divisor_1 (by decide) rfl rfl ?_
  refine R_iload_n dX8_divisor_2 rfl ?_
  refine S_istore_n (ls1 := [.int v0, .int v1, .int v0, .int v1, U_]) dX8_divisor_3 (by decide) rfl rfl ?_
  exact h G l hp
theorem g8_divisor_4 {d : Nat} {v0 : Int32} {v1 : Int32} {v2 : Int32} {v3 : Int32} {r : Option Value} (h : ((v3 ≤ 0) → r = some (.int v2)) ∧ ((¬ v3 ≤ 0) → (¬ v3 = 0) ∧ (RnS mX8_divisor (d + 1) 4 [.int v0, .int v1, .int v3, .int (v2 - v2 / v3 * v3), U_] [] r))) : RnS mX8_divisor (d + 1) 4 [.int v0, .int v1, .int v2, .int v3, U_] [] r := by
  intro G l hp
  refine R_iload_n dX8_divisor_4 rfl ?_
  refine R_if_le 21 dX8_divisor_5 (by decide) (fun c1 => ?_) (fun c1 => ?_)
  · replace h := h.1 c1
    refine R_iload_n dX8_divisor_21 rfl ?_
    exact R_iret dX8_divisor_22 rfl rfl ⟨h.symm, rfl⟩
  · replace h := h.2 c1
    refine R_iload_n dX8_divisor_8 rfl ?_
    refine R_iload_n dX8_divisor_9 rfl ?_
    refine R_irem dX8_divisor_10 h.1 ?_
    replace h := h.2
    refine S_istore (ls1 := [.int v0, .int v1, .int v2, .int v3, .int (v2 - v2 / v3 * v3)]) dX8_divisor_11 (by decide) rfl rfl ?_
    refine R_iload_n dX8_divisor_13 rfl ?_
    refine S_istore_n (ls1 := [.int v0, .int v1, .int v3, .int v3, .int (v2 - v2 / v3 * v3)]) dX8_divisor_14 (by decide) rfl rfl ?_
    refine R_iload dX8_divisor_15 rfl ?_
    refine S_istore_n (ls1 := [.int v0, .int v1, .int v3, .int (v2 - v2 / v3 * v3), .int (v2 - v2 / v3 * v3)]) dX8_divisor_17 (by decide) rfl rfl ?_
    refine R_goto 4 dX8_divisor_18 (by decide) ?_
    refine R_drop 4 ?_
    exact h G l hp
