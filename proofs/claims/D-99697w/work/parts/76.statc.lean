/-! printed: plain statics of the component and of the JDK -/
set_option maxRecDepth 100000
def sj_bitCount (v0 : Int32) : Int32 := ((((((((v0 - (((v0.toUInt32 >>> ((1 : Int32).toUInt32 &&& Int32.toUInt32 31)).toInt32) &&& 1431655765)) &&& 858993459) + ((((v0 - (((v0.toUInt32 >>> ((1 : Int32).toUInt32 &&& Int32.toUInt32 31)).toInt32) &&& 1431655765)).toUInt32 >>> ((2 : Int32).toUInt32 &&& Int32.toUInt32 31)).toInt32) &&& 858993459)) + (((((v0 - (((v0.toUInt32 >>> ((1 : Int32).toUInt32 &&& Int32.toUInt32 31)).toInt32) &&& 1431655765)) &&& 858993459) + ((((v0 - (((v0.toUInt32 >>> ((1 : Int32).toUInt32 &&& Int32.toUInt32 31)).toInt32) &&& 1431655765)).toUInt32 >>> ((2 : Int32).toUInt32 &&& Int32.toUInt32 31)).toInt32) &&& 858993459)).toUInt32 >>> ((4 : Int32).toUInt32 &&& Int32.toUInt32 31)).toInt32)) &&& 252645135) + (((((((v0 - (((v0.toUInt32 >>> ((1 : Int32).toUInt32 &&& Int32.toUInt32 31)).toInt32) &&& 1431655765)) &&& 858993459) + ((((v0 - (((v0.toUInt32 >>> ((1 : Int32).toUInt32 &&& Int32.toUInt32 31)).toInt32) &&& 1431655765)).toUInt32 >>> ((2 : Int32).toUInt32 &&& Int32.toUInt32 31)).toInt32) &&& 858993459)) + (((((v0 - (((v0.toUInt32 >>> ((1 : Int32).toUInt32 &&& Int32.toUInt32 31)).toInt32) &&& 1431655765)) &&& 858993459) + ((((v0 - (((v0.toUInt32 >>> ((1 : Int32).toUInt32 &&& Int32.toUInt32 31)).toInt32) &&& 1431655765)).toUInt32 >>> ((2 : Int32).toUInt32 &&& Int32.toUInt32 31)).toInt32) &&& 858993459)).toUInt32 >>> ((4 : Int32).toUInt32 &&& Int32.toUInt32 31)).toInt32)) &&& 252645135).toUInt32 >>> ((8 : Int32).toUInt32 &&& Int32.toUInt32 31)).toInt32)) + ((((((((v0 - (((v0.toUInt32 >>> ((1 : Int32).toUInt32 &&& Int32.toUInt32 31)).toInt32) &&& 1431655765)) &&& 858993459) + ((((v0 - (((v0.toUInt32 >>> ((1 : Int32).toUInt32 &&& Int32.toUInt32 31)).toInt32) &&& 1431655765)).toUInt32 >>> ((2 : Int32).toUInt32 &&& Int32.toUInt32 31)).toInt32) &&& 858993459)) + (((((v0 - (((v0.toUInt32 >>> ((1 : Int32).toUInt32 &&& Int32.toUInt32 31)).toInt32) &&& 1431655765)) &&& 858993459) + ((((v0 - (((v0.toUInt32 >>> ((1 : Int32).toUInt32 &&& Int32.toUInt32 31)).toInt32) &&& 1431655765)).toUInt32 >>> ((2 : Int32).toUInt32 &&& Int32.toUInt32 31)).toInt32) &&& 858993459)).toUInt32 >>> ((4 : Int32).toUInt32 &&& Int32.toUInt32 31)).toInt32)) &&& 252645135) + (((((((v0 - (((v0.toUInt32 >>> ((1 : Int32).toUInt32 &&& Int32.toUInt32 31)).toInt32) &&& 1431655765)) &&& 858993459) + ((((v0 - (((v0.toUInt32 >>> ((1 : Int32).toUInt32 &&& Int32.toUInt32 31)).toInt32) &&& 1431655765)).toUInt32 >>> ((2 : Int32).toUInt32 &&& Int32.toUInt32 31)).toInt32) &&& 858993459)) + (((((v0 - (((v0.toUInt32 >>> ((1 : Int32).toUInt32 &&& Int32.toUInt32 31)).toInt32) &&& 1431655765)) &&& 858993459) + ((((v0 - (((v0.toUInt32 >>> ((1 : Int32).toUInt32 &&& Int32.toUInt32 31)).toInt32) &&& 1431655765)).toUInt32 >>> ((2 : Int32).toUInt32 &&& Int32.toUInt32 31)).toInt32) &&& 858993459)).toUInt32 >>> ((4 : Int32).toUInt32 &&& Int32.toUInt32 31)).toInt32)) &&& 252645135).toUInt32 >>> ((8 : Int32).toUInt32 &&& Int32.toUInt32 31)).toInt32)).toUInt32 >>> ((16 : Int32).toUInt32 &&& Int32.toUInt32 31)).toInt32)) &&& 63)
theorem gc_J14_bitCount_0 {d : Nat} {v0 : Int32} {r : Option Value} (h : r = some (.int ((((((((v0 - (((v0.toUInt32 >>> ((1 : Int32).toUInt32 &&& Int32.toUInt32 31)).toInt32) &&& 1431655765)) &&& 858993459) + ((((v0 - (((v0.toUInt32 >>> ((1 : Int32).toUInt32 &&& Int32.toUInt32 31)).toInt32) &&& 1431655765)).toUInt32 >>> ((2 : Int32).toUInt32 &&& Int32.toUInt32 31)).toInt32) &&& 858993459)) + (((((v0 - (((v0.toUInt32 >>> ((1 : Int32).toUInt32 &&& Int32.toUInt32 31)).toInt32) &&& 1431655765)) &&& 858993459) + ((((v0 - (((v0.toUInt32 >>> ((1 : Int32).toUInt32 &&& Int32.toUInt32 31)).toInt32) &&& 1431655765)).toUInt32 >>> ((2 : Int32).toUInt32 &&& Int32.toUInt32 31)).toInt32) &&& 858993459)).toUInt32 >>> ((4 : Int32).toUInt32 &&& Int32.toUInt32 31)).toInt32)) &&& 252645135) + (((((((v0 - (((v0.toUInt32 >>> ((1 : Int32).toUInt32 &&& Int32.toUInt32 31)).toInt32) &&& 1431655765)) &&& 858993459) + ((((v0 - (((v0.toUInt32 >>> ((1 : Int32).toUInt32 &&& Int32.toUInt32 31)).toInt32) &&& 1431655765)).toUInt32 >>> ((2 : Int32).toUInt32 &&& Int32.toUInt32 31)).toInt32) &&& 858993459)) + (((((v0 - (((v0.toUInt32 >>> ((1 : Int32).toUInt32 &&& Int32.toUInt32 31)).toInt32) &&& 1431655765)) &&& 858993459) + ((((v0 - (((v0.toUInt32 >>> ((1 : Int32).toUInt32 &&& Int32.toUInt32 31)).toInt32) &&& 1431655765)).toUInt32 >>> ((2 : Int32).toUInt32 &&& Int32.toUInt32 31)).toInt32) &&& 858993459)).toUInt32 >>> ((4 : Int32).toUInt32 &&& Int32.toUInt32 31)).toInt32)) &&& 252645135).toUInt32 >>> ((8 : Int32).toUInt32 &&& Int32.toUInt32 31)).toInt32)) + ((((((((v0 - (((v0.toUInt32 >>> ((1 : Int32).toUInt32 &&& Int32.toUInt32 31)).toInt32) &&& 1431655765)) &&& 858993459) + ((((v0 - (((v0.toUInt32 >>> ((1 : Int32).toUInt32 &&& Int32.toUInt32 31)).toInt32) &&& 1431655765)).toUInt32 >>> ((2 : Int32).toUInt32 &&& Int32.toUInt32 31)).toInt32) &&& 858993459)) + (((((v0 - (((v0.toUInt32 >>> ((1 : Int32).toUInt32 &&& Int32.toUInt32 31)).toInt32) &&& 1431655765)) &&& 858993459) + ((((v0 - (((v0.toUInt32 >>> ((1 : Int32).toUInt32 &&& Int32.toUInt32 31)).toInt32) &&& 1431655765)).toUInt32 >>> ((2 : Int32).toUInt32 &&& Int32.toUInt32 31)).toInt32) &&& 858993459)).toUInt32 >>> ((4 : Int32).toUInt32 &&& Int32.toUInt32 31)).toInt32)) &&& 252645135) + (((((((v0 - (((v0.toUInt32 >>> ((1 : Int32).toUInt32 &&& Int32.toUInt32 31)).toInt32) &&& 1431655765)) &&& 858993459) + ((((v0 - (((v0.toUInt32 >>> ((1 : Int32).toUInt32 &&& Int32.toUInt32 31)).toInt32) &&& 1431655765)).toUInt32 >>> ((2 : Int32).toUInt32 &&& Int32.toUInt32 31)).toInt32) &&& 858993459)) + (((((v0 - (((v0.toUInt32 >>> ((1 : Int32).toUInt32 &&& Int32.toUInt32 31)).toInt32) &&& 1431655765)) &&& 858993459) + ((((v0 - (((v0.toUInt32 >>> ((1 : Int32).toUInt32 &&& Int32.toUInt32 31)).toInt32) &&& 1431655765)).toUInt32 >>> ((2 : Int32).toUInt32 &&& Int32.toUInt32 31)).toInt32) &&& 858993459)).toUInt32 >>> ((4 : Int32).toUInt32 &&& Int32.toUInt32 31)).toInt32)) &&& 252645135).toUInt32 >>> ((8 : Int32).toUInt32 &&& Int32.toUInt32 31)).toInt32)).toUInt32 >>> ((16 : Int32).toUInt32 &&& Int32.toUInt32 31)).toInt32)) &&& 63))) : RnS mJ14_bitCount (d + 1) 0 [.int v0] [] r := by
  intro G l hp
  refine R_iload_n dJ14_bitCount_0 rfl ?_
  refine R_iload_n dJ14_bitCount_1 rfl ?_
  refine R_iconst (v := 1) dJ14_bitCount_2 (by decide) ?_
  refine R_iushr dJ14_bitCount_3 ?_
  refine R_ldcw dJ14_bitCount_4 q1202 ?_
  refine R_iand dJ14_bitCount_7 ?_
  refine R_isub dJ14_bitCount_8 ?_
  refine S_istore_n (ls1 := [.int (v0 - (((v0.toUInt32 >>> ((1 : Int32).toUInt32 &&& Int32.toUInt32 31)).toInt32) &&& 1431655765))]) dJ14_bitCount_9 (by decide) rfl rfl ?_
  refine R_iload_n dJ14_bitCount_10 rfl ?_
  refine R_ldcw dJ14_bitCount_11 q1203 ?_
  refine R_iand dJ14_bitCount_14 ?_
  refine R_iload_n dJ14_bitCount_15 rfl ?_
  refine R_iconst (v := 2) dJ14_bitCount_16 (by decide) ?_
  refine R_iushr dJ14_bitCount_17 ?_
  refine R_ldcw dJ14_bitCount_18 q1203 ?_
  refine R_iand dJ14_bitCount_21 ?_
  refine R_iadd dJ14_bitCount_22 ?_
  refine S_istore_n (ls1 := [.int (((v0 - (((v0.toUInt32 >>> ((1 : Int32).toUInt32 &&& Int32.toUInt32 31)).toInt32) &&& 1431655765)) &&& 858993459) + ((((v0 - (((v0.toUInt32 >>> ((1 : Int32).toUInt32 &&& Int32.toUInt32 31)).toInt32) &&& 1431655765)).toUInt32 >>> ((2 : Int32).toUInt32 &&& Int32.toUInt32 31)).toInt32) &&& 858993459))]) dJ14_bitCount_23 (by decide) rfl rfl ?_
  refine R_iload_n dJ14_bitCount_24 rfl ?_
  refine R_iload_n dJ14_bitCount_25 rfl ?_
  refine R_iconst (v := 4) dJ14_bitCount_26 (by decide) ?_
  refine R_iushr dJ14_bitCount_27 ?_
  refine R_iadd dJ14_bitCount_28 ?_
  refine R_ldcw dJ14_bitCount_29 q1204 ?_
  refine R_iand dJ14_bitCount_32 ?_
  refine S_istore_n (ls1 := [.int (((((v0 - (((v0.toUInt32 >>> ((1 : Int32).toUInt32 &&& Int32.toUInt32 31)).toInt32) &&& 1431655765)) &&& 858993459) + ((((v0 - (((v0.toUInt32 >>> ((1 : Int32).toUInt32 &&& Int32.toUInt32 31)).toInt32) &&& 1431655765)).toUInt32 >>> ((2 : Int32).toUInt32 &&& Int32.toUInt32 31)).toInt32) &&& 858993459)) + (((((v0 - (((v0.toUInt32 >>> ((1 : Int32).toUInt32 &&& Int32.toUInt32 31)).toInt32) &&& 1431655765)) &&& 858993459) + ((((v0 - (((v0.toUInt32 >>> ((1 : Int32).toUInt32 &&& Int32.toUInt32 31)).toInt32) &&& 1431655765)).toUInt32 >>> ((2 : Int32).toUInt32 &&& Int32.toUInt32 31)).toInt32) &&& 858993459)).toUInt32 >>> ((4 : Int32).toUInt32 &&& Int32.toUInt32 31)).toInt32)) &&& 252645135)]) dJ14_bitCount_33 (by decide) rfl rfl ?_
  refine R_iload_n dJ14_bitCount_34 rfl ?_
  refine R_iload_n dJ14_bitCount_35 rfl ?_
  refine R_bipush (v := 8) dJ14_bitCount_36 (by decide) ?_
  refine R_iushr dJ14_bitCount_38 ?_
  refine R_iadd dJ14_bitCount_39 ?_
  refine S_istore_n (ls1 := [.int ((((((v0 - (((v0.toUInt32 >>> ((1 : Int32).toUInt32 &&& Int32.toUInt32 31)).toInt32) &&& 1431655765)) &&& 858993459) + ((((v0 - (((v0.toUInt32 >>> ((1 : Int32).toUInt32 &&& Int32.toUInt32 31)).toInt32) &&& 1431655765)).toUInt32 >>> ((2 : Int32).toUInt32 &&& Int32.toUInt32 31)).toInt32) &&& 858993459)) + (((((v0 - (((v0.toUInt32 >>> ((1 : Int32).toUInt32 &&& Int32.toUInt32 31)).toInt32) &&& 1431655765)) &&& 858993459) + ((((v0 - (((v0.toUInt32 >>> ((1 : Int32).toUInt32 &&& Int32.toUInt32 31)).toInt32) &&& 1431655765)).toUInt32 >>> ((2 : Int32).toUInt32 &&& Int32.toUInt32 31)).toInt32) &&& 858993459)).toUInt32 >>> ((4 : Int32).toUInt32 &&& Int32.toUInt32 31)).toInt32)) &&& 252645135) + (((((((v0 - (((v0.toUInt32 >>> ((1 : Int32).toUInt32 &&& Int32.toUInt32 31)).toInt32) &&& 1431655765)) &&& 858993459) + ((((v0 - (((v0.toUInt32 >>> ((1 : Int32).toUInt32 &&& Int32.toUInt32 31)).toInt32) &&& 1431655765)).toUInt32 >>> ((2 : Int32).toUInt32 &&& Int32.toUInt32 31)).toInt32) &&& 858993459)) + (((((v0 - (((v0.toUInt32 >>> ((1 : Int32).toUInt32 &&& Int32.toUInt32 31)).toInt32) &&& 1431655765)) &&& 858993459) + ((((v0 - (((v0.toUInt32 >>> ((1 : Int32).toUInt32 &&& Int32.toUInt32 31)).toInt32) &&& 1431655765)).toUInt32 >>> ((2 : Int32).toUInt32 &&& Int32.toUInt32 31)).toInt32) &&& 858993459)).toUInt32 >>> ((4 : Int32).toUInt32 &&& Int32.toUInt32 31)).toInt32)) &&& 252645135).toUInt32 >>> ((8 : Int32).toUInt32 &&& Int32.toUInt32 31)).toInt32))]) dJ14_bitCount_40 (by decide) rfl rfl ?_
  refine R_iload_n dJ14_bitCount_41 rfl ?_
  refine R_iload_n dJ14_bitCount_42 rfl ?_
  refine R_bipush (v := 16) dJ14_bitCount_43 (by decide) ?_
  refine R_iushr dJ14_bitCount_45 ?_
  refine R_iadd dJ14_bitCount_46 ?_
  refine S_istore_n (ls1 := [.int (((((((v0 - (((v0.toUInt32 >>> ((1 : Int32).toUInt32 &&& Int32.toUInt32 31)).toInt32) &&& 1431655765)) &&& 858993459) + ((((v0 - (((v0.toUInt32 >>> ((1 : Int32).toUInt32 &&& Int32.toUInt32 31)).toInt32) &&& 1431655765)).toUInt32 >>> ((2 : Int32).toUInt32 &&& Int32.toUInt32 31)).toInt32) &&& 858993459)) + (((((v0 - (((v0.toUInt32 >>> ((1 : Int32).toUInt32 &&& Int32.toUInt32 31)).toInt32) &&& 1431655765)) &&& 858993459) + ((((v0 - (((v0.toUInt32 >>> ((1 : Int32).toUInt32 &&& Int32.toUInt32 31)).toInt32) &&& 1431655765)).toUInt32 >>> ((2 : Int32).toUInt32 &&& Int32.toUInt32 31)).toInt32) &&& 858993459)).toUInt32 >>> ((4 : Int32).toUInt32 &&& Int32.toUInt32 31)).toInt32)) &&& 252645135) + (((((((v0 - (((v0.toUInt32 >>> ((1 : Int32).toUInt32 &&& Int32.toUInt32 31)).toInt32) &&& 1431655765)) &&& 858993459) + ((((v0 - (((v0.toUInt32 >>> ((1 : Int32).toUInt32 &&& Int32.toUInt32 31)).toInt32) &&& 1431655765)).toUInt32 >>> ((2 : Int32).toUInt32 &&& Int32.toUInt32 31)).toInt32) &&& 858993459)) + (((((v0 - (((v0.toUInt32 >>> ((1 : Int32).toUInt32 &&& Int32.toUInt32 31)).toInt32) &&& 1431655765)) &&& 858993459) + ((((v0 - (((v0.toUInt32 >>> ((1 : Int32).toUInt32 &&& Int32.toUInt32 31)).toInt32) &&& 1431655765)).toUInt32 >>> ((2 : Int32).toUInt32 &&& Int32.toUInt32 31)).toInt32) &&& 858993459)).toUInt32 >>> ((4 : Int32).toUInt32 &&& Int32.toUInt32 31)).toInt32)) &&& 252645135).toUInt32 >>> ((8 : Int32).toUInt32 &&& Int32.toUInt32 31)).toInt32)) + ((((((((v0 - (((v0.toUInt32 >>> ((1 : Int32).toUInt32 &&& Int32.toUInt32 31)).toInt32) &&& 1431655765)) &&& 858993459) + ((((v0 - (((v0.toUInt32 >>> ((1 : Int32).toUInt32 &&& Int32.toUInt32 31)).toInt32) &&& 1431655765)).toUInt32 >>> ((2 : Int32).toUInt32 &&& Int32.toUInt32 31)).toInt32) &&& 858993459)) + (((((v0 - (((v0.toUInt32 >>> ((1 : Int32).toUInt32 &&& Int32.toUInt32 31)).toInt32) &&& 1431655765)) &&& 858993459) + ((((v0 - (((v0.toUInt32 >>> ((1 : Int32).toUInt32 &&& Int32.toUInt32 31)).toInt32) &&& 1431655765)).toUInt32 >>> ((2 : Int32).toUInt32 &&& Int32.toUInt32 31)).toInt32) &&& 858993459)).toUInt32 >>> ((4 : Int32).toUInt32 &&& Int32.toUInt32 31)).toInt32)) &&& 252645135) + (((((((v0 - (((v0.toUInt32 >>> ((1 : Int32).toUInt32 &&& Int32.toUInt32 31)).toInt32) &&& 1431655765)) &&& 858993459) + ((((v0 - (((v0.toUInt32 >>> ((1 : Int32).toUInt32 &&& Int32.toUInt32 31)).toInt32) &&& 1431655765)).toUInt32 >>> ((2 : Int32).toUInt32 &&& Int32.toUInt32 31)).toInt32) &&& 858993459)) + (((((v0 - (((v0.toUInt32 >>> ((1 : Int32).toUInt32 &&& Int32.toUInt32 31)).toInt32) &&& 1431655765)) &&& 858993459) + ((((v0 - (((v0.toUInt32 >>> ((1 : Int32).toUInt32 &&& Int32.toUInt32 31)).toInt32) &&& 1431655765)).toUInt32 >>> ((2 : Int32).toUInt32 &&& Int32.toUInt32 31)).toInt32) &&& 858993459)).toUInt32 >>> ((4 : Int32).toUInt32 &&& Int32.toUInt32 31)).toInt32)) &&& 252645135).toUInt32 >>> ((8 : Int32).toUInt32 &&& Int32.toUInt32 31)).toInt32)).toUInt32 >>> ((16 : Int32).toUInt32 &&& Int32.toUInt32 31)).toInt32))]) dJ14_bitCount_47 (by decide) rfl rfl ?_
  refine R_iload_n dJ14_bitCount_48 rfl ?_
  refine R_bipush (v := 63) dJ14_bitCount_49 (by decide) ?_
  refine R_iand dJ14_bitCount_51 ?_
  exact R_iret dJ14_bitCount_52 rfl rfl ⟨h.symm, rfl⟩
theorem sjt_bitCount (d : Nat) (v0 : Int32) : St8 mJ14_bitCount (d + 1) [.int v0] (some (.int (sj_bitCount v0))) := St8.of (by decide) rfl (fun G => Nat.le_of_ble_eq_true rfl) (gc_J14_bitCount_0 rfl)
def sj_lowestOneBit (v0 : Int32) : Int32 := (v0 &&& (-v0))
theorem gc_J14_lowestOneBit_0 {d : Nat} {v0 : Int32} {r : Option Value} (h : r = some (.int (v0 &&& (-v0)))) : RnS mJ14_lowestOneBit (d + 1) 0 [.int v0] [] r := by
  intro G l hp
  refine R_iload_n dJ14_lowestOneBit_0 rfl ?_
  refine R_iload_n dJ14_lowestOneBit_1 rfl ?_
  refine R_ineg dJ14_lowestOneBit_2 ?_
  refine R_iand dJ14_lowestOneBit_3 ?_
  exact R_iret dJ14_lowestOneBit_4 rfl rfl ⟨h.symm, rfl⟩
theorem sjt_lowestOneBit (d : Nat) (v0 : Int32) : St8 mJ14_lowestOneBit (d + 1) [.int v0] (some (.int (sj_lowestOneBit v0))) := St8.of (by decide) rfl (fun G => Nat.le_of_ble_eq_true rfl) (gc_J14_lowestOneBit_0 rfl)
def s0_isIn (v0 v1 v2 : Int32) : Int32 := (if v0 < v1 then 0 else if v2 < v0 then 0 else 1)
theorem gc_X0_isIn_0 {d : Nat} {v0 : Int32} {v1 : Int32} {v2 : Int32} {r : Option Value} (h : r = some (.int (if v0 < v1 then 0 else if v2 < v0 then 0 else 1))) : RnS mX0_isIn (d + 1) 0 [.int v0, .int v1, .int v2] [] r := by
  intro G l hp
  refine R_iload_n dX0_isIn_0 rfl ?_
  refine R_iload_n dX0_isIn_1 rfl ?_
  have J1 : RnH [] G l mX0_isIn (d + 1) (fun v hp1 => v = r ∧ hp1 = hp) noX 15 [.int v0, .int v1, .int v2] [.int (if v0 < v1 then 0 else if v2 < v0 then 0 else 1)] hp 0 0 := by
    exact R_iret dX0_isIn_15 rfl (by show isB _; repeat (first | exact isB_0 | exact isB_1 | refine isB_if ?_ ?_)) ⟨h.symm, rfl⟩
  refine R_icmp_lt 14 dX0_isIn_2 (by decide) (fun c2 => ?_) (fun c2 => ?_)
  · refine R_iconst (v := 0) dX0_isIn_14 (by decide) ?_
    simp only [if_pos c2] at J1
    first | exact J1 | (simp only [if_pos c2]; exact J1)
  · refine R_iload_n dX0_isIn_5 rfl ?_
    refine R_iload_n dX0_isIn_6 rfl ?_
    refine R_icmp_gt 14 dX0_isIn_7 (by decide) (fun c3 => ?_) (fun c3 => ?_)
    · refine R_iconst (v := 0) dX0_isIn_14 (by decide) ?_
      simp only [if_neg c2, if_pos c3] at J1
      first | exact J1 | (simp only [if_neg c2, if_pos c3]; exact J1)
    · refine R_iconst (v := 1) dX0_isIn_10 (by decide) ?_
      refine R_goto 15 dX0_isIn_11 (by decide) ?_
      simp only [if_neg c2, if_neg c3] at J1
      first | exact J1 | (simp only [if_neg c2, if_neg c3]; exact J1)
theorem s0t_isIn (d : Nat) (v0 v1 v2 : Int32) : St8 mX0_isIn (d + 1) [.int v0, .int v1, .int v2] (some (.int (s0_isIn v0 v1 v2))) := St8.of (by decide) rfl (fun G => Nat.le_of_ble_eq_true rfl) (gc_X0_isIn_0 rfl)
theorem s0b_isIn (v0 v1 v2 : Int32) : isB (s0_isIn v0 v1 v2) := by unfold s0_isIn; (repeat' split) <;> rfl
def s0_within (v0 v1 : Int32) : Int32 := (sj_max 0 (sj_min v1 v0))
theorem gc_X0_within_0 {d : Nat} {v0 : Int32} {v1 : Int32} {r : Option Value} (h : r = some (.int (sj_max 0 (sj_min v1 v0)))) : RnS mX0_within (d + 2) 0 [.int v0, .int v1] [] r := by
  intro G l hp
  refine R_iconst (v := 0) dX0_within_0 (by decide) ?_
  refine R_iload_n dX0_within_1 rfl ?_
  refine R_iload_n dX0_within_2 rfl ?_
  refine R_mmin dX0_within_3 q1047 (Nat.le_of_ble_eq_true rfl) ?_
  refine R_mmax dX0_within_6 q1048 (Nat.le_of_ble_eq_true rfl) ?_
  exact R_iret dX0_within_9 rfl rfl ⟨h.symm, rfl⟩
theorem s0t_within (d : Nat) (v0 v1 : Int32) : St8 mX0_within (d + 2) [.int v0, .int v1] (some (.int (s0_within v0 v1))) := St8.of (by decide) rfl (fun G => Nat.le_of_ble_eq_true rfl) (gc_X0_within_0 rfl)
def s0_has (v0 v1 : Int32) : Int32 := (if ((v0 >>> (v1 &&& 31)) &&& 1) = 1 then 1 else 0)
theorem gc_X0_has_0 {d : Nat} {v0 : Int32} {v1 : Int32} {r : Option Value} (h : r = some (.int (if ((v0 >>> (v1 &&& 31)) &&& 1) = 1 then 1 else 0))) : RnS mX0_has (d + 1) 0 [.int v0, .int v1] [] r := by
  intro G l hp
  refine R_iload_n dX0_has_0 rfl ?_
  refine R_iload_n dX0_has_1 rfl ?_
  refine R_ishr dX0_has_2 ?_
  refine R_iconst (v := 1) dX0_has_3 (by decide) ?_
  refine R_iand dX0_has_4 ?_
  refine R_iconst (v := 1) dX0_has_5 (by decide) ?_
  have J1 : RnH [] G l mX0_has (d + 1) (fun v hp1 => v = r ∧ hp1 = hp) noX 14 [.int v0, .int v1] [.int (if ((v0 >>> (v1 &&& 31)) &&& 1) = 1 then 1 else 0)] hp 0 0 := by
    exact R_iret dX0_has_14 rfl (by show isB _; repeat (first | exact isB_0 | exact isB_1 | refine isB_if ?_ ?_)) ⟨h.symm, rfl⟩
  refine R_icmp_ne 13 dX0_has_6 (by decide) (fun c2 => ?_) (fun c2 => ?_)
  · refine R_iconst (v := 0) dX0_has_13 (by decide) ?_
    simp only [if_neg c2] at J1
    first | exact J1 | (simp only [if_neg c2]; exact J1)
  · refine R_iconst (v := 1) dX0_has_9 (by decide) ?_
    refine R_goto 14 dX0_has_10 (by decide) ?_
    simp only [if_pos c2] at J1
    first | exact J1 | (simp only [if_pos c2]; exact J1)
theorem s0t_has (d : Nat) (v0 v1 : Int32) : St8 mX0_has (d + 1) [.int v0, .int v1] (some (.int (s0_has v0 v1))) := St8.of (by decide) rfl (fun G => Nat.le_of_ble_eq_true rfl) (gc_X0_has_0 rfl)
theorem s0b_has (v0 v1 : Int32) : isB (s0_has v0 v1) := by unfold s0_has; (repeat' split) <;> rfl
def s0_is (v0 : Int32) : Int32 := (if v0 = 0 then 0 else 1)
theorem gc_X17_is_0 {d : Nat} {v0 : Int32} {r : Option Value} (h : r = some (.int (if v0 = 0 then 0 else 1))) : RnS mX17_is (d + 1) 0 [.int v0] [] r := by
  intro G l hp
  refine R_iload_n dX17_is_0 rfl ?_
  have J1 : RnH [] G l mX17_is (d + 1) (fun v hp1 => v = r ∧ hp1 = hp) noX 9 [.int v0] [.int (if v0 = 0 then 0 else 1)] hp 0 0 := by
    exact R_iret dX17_is_9 rfl rfl ⟨h.symm, rfl⟩
  refine R_if_eq 8 dX17_is_1 (by decide) (fun c2 => ?_) (fun c2 => ?_)
  · refine R_iconst (v := 0) dX17_is_8 (by decide) ?_
    simp only [if_pos c2] at J1
    first | exact J1 | (simp only [if_pos c2]; exact J1)
  · refine R_iconst (v := 1) dX17_is_4 (by decide) ?_
    refine R_goto 9 dX17_is_5 (by decide) ?_
    simp only [if_neg c2] at J1
    first | exact J1 | (simp only [if_neg c2]; exact J1)
theorem s0t_is (d : Nat) (v0 : Int32) : St8 mX17_is (d + 1) [.int v0] (some (.int (s0_is v0))) := St8.of (by decide) rfl (fun G => Nat.le_of_ble_eq_true rfl) (gc_X17_is_0 rfl)
theorem gc_X17_of_22_1 {d p0 p1 : Nat} {v2 : Int32} {v3 : Int32} {t0 : Int32} {r : Option Value} (h : ((t0.toInt < 37 ∨ 62 < t0.toInt) → r = some (.int (s0_is (if v2 = 0 then if v3 = 0 then 0 else 1 else 1)))) ∧ (t0 = 37 → ((¬ v3 = 0) → (¬ v3 = 0) ∧ (r = some (.int (v2 - v2 / v3 * v3)))) ∧ ((v3 = 0) → r = some (.int 0))) ∧ (t0 = 38 → r = some (.int (s0_is (if v2 = 0 then 0 else if v3 = 0 then 0 else 1)))) ∧ (t0 = 39 → r = some (.int (s0_is (if v2 = 0 then if v3 = 0 then 0 else 1 else 1)))) ∧ (t0 = 40 → r = some (.int (s0_is (if v2 = 0 then if v3 = 0 then 0 else 1 else 1)))) ∧ (t0 = 41 → r = some (.int (s0_is (if v2 = 0 then if v3 = 0 then 0 else 1 else 1)))) ∧ (t0 = 42 → r = some (.int (v2 * v3))) ∧ (t0 = 43 → r = some (.int (v2 + v3))) ∧ (t0 = 44 → r = some (.int (s0_is (if v2 = 0 then if v3 = 0 then 0 else 1 else 1)))) ∧ (t0 = 45 → r = some (.int (v2 - v3))) ∧ (t0 = 46 → r = some (.int (s0_is (if v2 = 0 then if v3 = 0 then 0 else 1 else 1)))) ∧ (t0 = 47 → ((¬ v3 = 0) → (¬ v3 = 0) ∧ (r = some (.int (v2 / v3)))) ∧ ((v3 = 0) → r = some (.int 0))) ∧ (t0 = 48 → r = some (.int (s0_is (if v2 = 0 then if v3 = 0 then 0 else 1 else 1)))) ∧ (t0 = 49 → r = some (.int (s0_is (if v2 = 0 then if v3 = 0 then 0 else 1 else 1)))) ∧ (t0 = 50 → r = some (.int (s0_is (if v2 = 0 then if v3 = 0 then 0 else 1 else 1)))) ∧ (t0 = 51 → r = some (.int (s0_is (if v2 = 0 then if v3 = 0 then 0 else 1 else 1)))) ∧ (t0 = 52 → r = some (.int (s0_is (if v2 = 0 then if v3 = 0 then 0 else 1 else 1)))) ∧ (t0 = 53 → r = some (.int (s0_is (if v2 = 0 then if v3 = 0 then 0 else 1 else 1)))) ∧ (t0 = 54 → r = some (.int (s0_is (if v2 = 0 then if v3 = 0 then 0 else 1 else 1)))) ∧ (t0 = 55 → r = some (.int (s0_is (if v2 = 0 then if v3 = 0 then 0 else 1 else 1)))) ∧ (t0 = 56 → r = some (.int (s0_is (if v2 = 0 then if v3 = 0 then 0 else 1 else 1)))) ∧ (t0 = 57 → r = some (.int (s0_is (if v2 = 0 then if v3 = 0 then 0 else 1 else 1)))) ∧ (t0 = 58 → r = some (.int (s0_is (if v2 = 0 then if v3 = 0 then 0 else 1 else 1)))) ∧ (t0 = 59 → r = some (.int (s0_is (if v2 = 0 then if v3 = 0 then 0 else 1 else 1)))) ∧ (t0 = 60 → r = some (.int (s0_is (if v3 ≤ v2 then 0 else 1)))) ∧ (t0 = 61 → r = some (.int (s0_is (if v2 = v3 then 1 else 0)))) ∧ (t0 = 62 → r = some (.int (s0_is (if v2 ≤ v3 then 0 else 1))))) : RnS mX17_of (d + 2) 22 [.ref p0, .ref p1, .int v2, .int v3] [.int t0] r := by
  intro G l hp
  by_cases hlo : t0.toInt < 37 ∨ 62 < t0.toInt
  · replace h := h.1 hlo
    refine R_tabOut 235 dX17_of_22 hlo (by decide) ?_
    refine R_iload_n dX17_of_235 rfl ?_
    have J1 : RnH [] G l mX17_of (d + 2) (fun v hp1 => v = r ∧ hp1 = hp) noX 248 [.ref p0, .ref p1, .int v2, .int v3] [.int (if v2 = 0 then if v3 = 0 then 0 else 1 else 1)] hp 0 0 := by
      refine V_callS [.int (if v2 = 0 then if v3 = 0 then 0 else 1 else 1)] dX17_of_248 cs_X17_24 rfl rfl (Nat.le_of_ble_eq_true rfl) (s0t_is (d + 0) (if v2 = 0 then if v3 = 0 then 0 else 1 else 1)) ?_
      show RnH [] G l mX17_of (d + 2) (fun v hp1 => v = r ∧ hp1 = hp) noX 251 [.ref p0, .ref p1, .int v2, .int v3] [.int (s0_is (if v2 = 0 then if v3 = 0 then 0 else 1 else 1))] hp 0 0
      exact R_iret dX17_of_251 rfl rfl ⟨h.symm, rfl⟩
    refine R_if_ne 243 dX17_of_236 (by decide) (fun c2 => ?_) (fun c2 => ?_)
    · refine R_iconst (v := 1) dX17_of_243 (by decide) ?_
      refine R_goto 248 dX17_of_244 (by decide) ?_
      simp only [if_neg c2] at J1
      first | exact J1 | (simp only [if_neg c2]; exact J1)
    · refine R_iload_n dX17_of_239 rfl ?_
      refine R_if_eq 247 dX17_of_240 (by decide) (fun c3 => ?_) (fun c3 => ?_)
      · refine R_iconst (v := 0) dX17_of_247 (by decide) ?_
        simp only [if_pos c2, if_pos c3] at J1
        first | exact J1 | (simp only [if_pos c2, if_pos c3]; exact J1)
      · refine R_iconst (v := 1) dX17_of_243 (by decide) ?_
        refine R_goto 248 dX17_of_244 (by decide) ?_
        simp only [if_pos c2, if_neg c3] at J1
        first | exact J1 | (simp only [if_pos c2, if_neg c3]; exact J1)
  · replace h := h.2
    rcases (show t0.toInt = 37 ∨ t0.toInt = 38 ∨ t0.toInt = 39 ∨ t0.toInt = 40 ∨ t0.toInt = 41 ∨ t0.toInt = 42 ∨ t0.toInt = 43 ∨ t0.toInt = 44 ∨ t0.toInt = 45 ∨ t0.toInt = 46 ∨ t0.toInt = 47 ∨ t0.toInt = 48 ∨ t0.toInt = 49 ∨ t0.toInt = 50 ∨ t0.toInt = 51 ∨ t0.toInt = 52 ∨ t0.toInt = 53 ∨ t0.toInt = 54 ∨ t0.toInt = 55 ∨ t0.toInt = 56 ∨ t0.toInt = 57 ∨ t0.toInt = 58 ∨ t0.toInt = 59 ∨ t0.toInt = 60 ∨ t0.toInt = 61 ∨ t0.toInt = 62 by omega) with e9 | e9 | e9 | e9 | e9 | e9 | e9 | e9 | e9 | e9 | e9 | e9 | e9 | e9 | e9 | e9 | e9 | e9 | e9 | e9 | e9 | e9 | e9 | e9 | e9 | e9
    · replace e9 : t0 = 37 := Int32.toInt_inj.mp (e9.trans (by decide))
      replace h := h.1 e9
      subst e9
      refine R_tabIn 164 dX17_of_22 (by decide) (by decide) rfl (by decide) ?_
      refine R_iload_n dX17_of_164 rfl ?_
      refine R_if_ne 172 dX17_of_165 (by decide) (fun c4 => ?_) (fun c4 => ?_)
      · replace h := h.1 c4
        refine R_iload_n dX17_of_172 rfl ?_
        refine R_iload_n dX17_of_173 rfl ?_
        refine R_irem dX17_of_174 h.1 ?_
        replace h := h.2
        exact R_iret dX17_of_175 rfl rfl ⟨h.symm, rfl⟩
      · replace h := h.2 c4
        refine R_iconst (v := 0) dX17_of_168 (by decide) ?_
        refine R_goto 175 dX17_of_169 (by decide) ?_
        exact R_iret dX17_of_175 rfl rfl ⟨h.symm, rfl⟩
    · replace e9 : t0 = 38 := Int32.toInt_inj.mp (e9.trans (by decide))
      replace h := h.2.1 e9
      subst e9
      refine R_tabIn 218 dX17_of_22 (by decide) (by decide) rfl (by decide) ?_
      refine R_iload_n dX17_of_218 rfl ?_
      have J5 : RnH [] G l mX17_of (d + 2) (fun v hp1 => v = r ∧ hp1 = hp) noX 231 [.ref p0, .ref p1, .int v2, .int v3] [.int (if v2 = 0 then 0 else if v3 = 0 then 0 else 1)] hp 0 0 := by
        refine V_callS [.int (if v2 = 0 then 0 else if v3 = 0 then 0 else 1)] dX17_of_231 cs_X17_24 rfl rfl (Nat.le_of_ble_eq_true rfl) (s0t_is (d + 0) (if v2 = 0 then 0 else if v3 = 0 then 0 else 1)) ?_
        show RnH [] G l mX17_of (d + 2) (fun v hp1 => v = r ∧ hp1 = hp) noX 234 [.ref p0, .ref p1, .int v2, .int v3] [.int (s0_is (if v2 = 0 then 0 else if v3 = 0 then 0 else 1))] hp 0 0
        exact R_iret dX17_of_234 rfl rfl ⟨h.symm, rfl⟩
      refine R_if_eq 230 dX17_of_219 (by decide) (fun c6 => ?_) (fun c6 => ?_)
      · refine R_iconst (v := 0) dX17_of_230 (by decide) ?_
        simp only [if_pos c6] at J5
        first | exact J5 | (simp only [if_pos c6]; exact J5)
      · refine R_iload_n dX17_of_222 rfl ?_
        refine R_if_eq 230 dX17_of_223 (by decide) (fun c7 => ?_) (fun c7 => ?_)
        · refine R_iconst (v := 0) dX17_of_230 (by decide) ?_
          simp only [if_neg c6, if_pos c7] at J5
          first | exact J5 | (simp only [if_neg c6, if_pos c7]; exact J5)
        · refine R_iconst (v := 1) dX17_of_226 (by decide) ?_
          refine R_goto 231 dX17_of_227 (by decide) ?_
          simp only [if_neg c6, if_neg c7] at J5
          first | exact J5 | (simp only [if_neg c6, if_neg c7]; exact J5)
    · replace e9 : t0 = 39 := Int32.toInt_inj.mp (e9.trans (by decide))
      replace h := h.2.2.1 e9
      subst e9
      refine R_tabIn 235 dX17_of_22 (by decide) (by decide) rfl (by decide) ?_
      refine R_iload_n dX17_of_235 rfl ?_
      have J8 : RnH [] G l mX17_of (d + 2) (fun v hp1 => v = r ∧ hp1 = hp) noX 248 [.ref p0, .ref p1, .int v2, .int v3] [.int (if v2 = 0 then if v3 = 0 then 0 else 1 else 1)] hp 0 0 := by
        refine V_callS [.int (if v2 = 0 then if v3 = 0 then 0 else 1 else 1)] dX17_of_248 cs_X17_24 rfl rfl (Nat.le_of_ble_eq_true rfl) (s0t_is (d + 0) (if v2 = 0 then if v3 = 0 then 0 else 1 else 1)) ?_
        show RnH [] G l mX17_of (d + 2) (fun v hp1 => v = r ∧ hp1 = hp) noX 251 [.ref p0, .ref p1, .int v2, .int v3] [.int (s0_is (if v2 = 0 then if v3 = 0 then 0 else 1 else 1))] hp 0 0
        exact R_iret dX17_of_251 rfl rfl ⟨h.symm, rfl⟩
      refine R_if_ne 243 dX17_of_236 (by decide) (fun c9 => ?_) (fun c9 => ?_)
      · refine R_iconst (v := 1) dX17_of_243 (by decide) ?_
        refine R_goto 248 dX17_of_244 (by decide) ?_
        simp only [if_neg c9] at J8
        first | exact J8 | (simp only [if_neg c9]; exact J8)
      · refine R_iload_n dX17_of_239 rfl ?_
        refine R_if_eq 247 dX17_of_240 (by decide) (fun c10 => ?_) (fun c10 => ?_)
        · refine R_iconst (v := 0) dX17_of_247 (by decide) ?_
          simp only [if_pos c9, if_pos c10] at J8
          first | exact J8 | (simp only [if_pos c9, if_pos c10]; exact J8)
        · refine R_iconst (v := 1) dX17_of_243 (by decide) ?_
          refine R_goto 248 dX17_of_244 (by decide) ?_
          simp only [if_pos c9, if_neg c10] at J8
          first | exact J8 | (simp only [if_pos c9, if_neg c10]; exact J8)
    · replace e9 : t0 = 40 := Int32.toInt_inj.mp (e9.trans (by decide))
      replace h := h.2.2.2.1 e9
      subst e9
      refine R_tabIn 235 dX17_of_22 (by decide) (by decide) rfl (by decide) ?_
      refine R_iload_n dX17_of_235 rfl ?_
      have J11 : RnH [] G l mX17_of (d + 2) (fun v hp1 => v = r ∧ hp1 = hp) noX 248 [.ref p0, .ref p1, .int v2, .int v3] [.int (if v2 = 0 then if v3 = 0 then 0 else 1 else 1)] hp 0 0 := by
        refine V_callS [.int (if v2 = 0 then if v3 = 0 then 0 else 1 else 1)] dX17_of_248 cs_X17_24 rfl rfl (Nat.le_of_ble_eq_true rfl) (s0t_is (d + 0) (if v2 = 0 then if v3 = 0 then 0 else 1 else 1)) ?_
        show RnH [] G l mX17_of (d + 2) (fun v hp1 => v = r ∧ hp1 = hp) noX 251 [.ref p0, .ref p1, .int v2, .int v3] [.int (s0_is (if v2 = 0 then if v3 = 0 then 0 else 1 else 1))] hp 0 0
        exact R_iret dX17_of_251 rfl rfl ⟨h.symm, rfl⟩
      refine R_if_ne 243 dX17_of_236 (by decide) (fun c12 => ?_) (fun c12 => ?_)
      · refine R_iconst (v := 1) dX17_of_243 (by decide) ?_
        refine R_goto 248 dX17_of_244 (by decide) ?_
        simp only [if_neg c12] at J11
        first | exact J11 | (simp only [if_neg c12]; exact J11)
      · refine R_iload_n dX17_of_239 rfl ?_
        refine R_if_eq 247 dX17_of_240 (by decide) (fun c13 => ?_) (fun c13 => ?_)
        · refine R_iconst (v := 0) dX17_of_247 (by decide) ?_
          simp only [if_pos c12, if_pos c13] at J11
          first | exact J11 | (simp only [if_pos c12, if_pos c13]; exact J11)
        · refine R_iconst (v := 1) dX17_of_243 (by decide) ?_
          refine R_goto 248 dX17_of_244 (by decide) ?_
          simp only [if_pos c12, if_neg c13] at J11
          first | exact J11 | (simp only [if_pos c12, if_neg c13]; exact J11)
    · replace e9 : t0 = 41 := Int32.toInt_inj.mp (e9.trans (by decide))
      replace h := h.2.2.2.2.1 e9
      subst e9
      refine R_tabIn 235 dX17_of_22 (by decide) (by decide) rfl (by decide) ?_
      refine R_iload_n dX17_of_235 rfl ?_
      have J14 : RnH [] G l mX17_of (d + 2) (fun v hp1 => v = r ∧ hp1 = hp) noX 248 [.ref p0, .ref p1, .int v2, .int v3] [.int (if v2 = 0 then if v3 = 0 then 0 else 1 else 1)] hp 0 0 := by
        refine V_callS [.int (if v2 = 0 then if v3 = 0 then 0 else 1 else 1)] dX17_of_248 cs_X17_24 rfl rfl (Nat.le_of_ble_eq_true rfl) (s0t_is (d + 0) (if v2 = 0 then if v3 = 0 then 0 else 1 else 1)) ?_
        show RnH [] G l mX17_of (d + 2) (fun v hp1 => v = r ∧ hp1 = hp) noX 251 [.ref p0, .ref p1, .int v2, .int v3] [.int (s0_is (if v2 = 0 then if v3 = 0 then 0 else 1 else 1))] hp 0 0
        exact R_iret dX17_of_251 rfl rfl ⟨h.symm, rfl⟩
      refine R_if_ne 243 dX17_of_236 (by decide) (fun c15 => ?_) (fun c15 => ?_)
      · refine R_iconst (v := 1) dX17_of_243 (by decide) ?_
        refine R_goto 248 dX17_of_244 (by decide) ?_
        simp only [if_neg c15] at J14
        first | exact J14 | (simp only [if_neg c15]; exact J14)
      · refine R_iload_n dX17_of_239 rfl ?_
        refine R_if_eq 247 dX17_of_240 (by decide) (fun c16 => ?_) (fun c16 => ?_)
        · refine R_iconst (v := 0) dX17_of_247 (by decide) ?_
          simp only [if_pos c15, if_pos c16] at J14
          first | exact J14 | (simp only [if_pos c15, if_pos c16]; exact J14)
        · refine R_iconst (v := 1) dX17_of_243 (by decide) ?_
          refine R_goto 248 dX17_of_244 (by decide) ?_
          simp only [if_pos c15, if_neg c16] at J14
          first | exact J14 | (simp only [if_pos c15, if_neg c16]; exact J14)
    · replace e9 : t0 = 42 := Int32.toInt_inj.mp (e9.trans (by decide))
      replace h := h.2.2.2.2.2.1 e9
      subst e9
      refine R_tabIn 148 dX17_of_22 (by decide) (by decide) rfl (by decide) ?_
      refine R_iload_n dX17_of_148 rfl ?_
      refine R_iload_n dX17_of_149 rfl ?_
      refine R_imul dX17_of_150 ?_
      exact R_iret dX17_of_151 rfl rfl ⟨h.symm, rfl⟩
    · replace e9 : t0 = 43 := Int32.toInt_inj.mp (e9.trans (by decide))
      replace h := h.2.2.2.2.2.2.1 e9
      subst e9
      refine R_tabIn 140 dX17_of_22 (by decide) (by decide) rfl (by decide) ?_
      refine R_iload_n dX17_of_140 rfl ?_
      refine R_iload_n dX17_of_141 rfl ?_
      refine R_iadd dX17_of_142 ?_
      exact R_iret dX17_of_143 rfl rfl ⟨h.symm, rfl⟩
    · replace e9 : t0 = 44 := Int32.toInt_inj.mp (e9.trans (by decide))
      replace h := h.2.2.2.2.2.2.2.1 e9
      subst e9
      refine R_tabIn 235 dX17_of_22 (by decide) (by decide) rfl (by decide) ?_
      refine R_iload_n dX17_of_235 rfl ?_
      have J17 : RnH [] G l mX17_of (d + 2) (fun v hp1 => v = r ∧ hp1 = hp) noX 248 [.ref p0, .ref p1, .int v2, .int v3] [.int (if v2 = 0 then if v3 = 0 then 0 else 1 else 1)] hp 0 0 := by
        refine V_callS [.int (if v2 = 0 then if v3 = 0 then 0 else 1 else 1)] dX17_of_248 cs_X17_24 rfl rfl (Nat.le_of_ble_eq_true rfl) (s0t_is (d + 0) (if v2 = 0 then if v3 = 0 then 0 else 1 else 1)) ?_
        show RnH [] G l mX17_of (d + 2) (fun v hp1 => v = r ∧ hp1 = hp) noX 251 [.ref p0, .ref p1, .int v2, .int v3] [.int (s0_is (if v2 = 0 then if v3 = 0 then 0 else 1 else 1))] hp 0 0
        exact R_iret dX17_of_251 rfl rfl ⟨h.symm, rfl⟩
      refine R_if_ne 243 dX17_of_236 (by decide) (fun c18 => ?_) (fun c18 => ?_)
      · refine R_iconst (v := 1) dX17_of_243 (by decide) ?_
        refine R_goto 248 dX17_of_244 (by decide) ?_
        simp only [if_neg c18] at J17
        first | exact J17 | (simp only [if_neg c18]; exact J17)
      · refine R_iload_n dX17_of_239 rfl ?_
        refine R_if_eq 247 dX17_of_240 (by decide) (fun c19 => ?_) (fun c19 => ?_)
        · refine R_iconst (v := 0) dX17_of_247 (by decide) ?_
          simp only [if_pos c18, if_pos c19] at J17
          first | exact J17 | (simp only [if_pos c18, if_pos c19]; exact J17)
        · refine R_iconst (v := 1) dX17_of_243 (by decide) ?_
          refine R_goto 248 dX17_of_244 (by decide) ?_
          simp only [if_pos c18, if_neg c19] at J17
          first | exact J17 | (simp only [if_pos c18, if_neg c19]; exact J17)
    · replace e9 : t0 = 45 := Int32.toInt_inj.mp (e9.trans (by decide))
      replace h := h.2.2.2.2.2.2.2.2.1 e9
      subst e9
      refine R_tabIn 144 dX17_of_22 (by decide) (by decide) rfl (by decide) ?_
      refine R_iload_n dX17_of_144 rfl ?_
      refine R_iload_n dX17_of_145 rfl ?_
      refine R_isub dX17_of_146 ?_
      exact R_iret dX17_of_147 rfl rfl ⟨h.symm, rfl⟩
    · replace e9 : t0 = 46 := Int32.toInt_inj.mp (e9.trans (by decide))
      replace h := h.2.2.2.2.2.2.2.2.2.1 e9
      subst e9
      refine R_tabIn 235 dX17_of_22 (by decide) (by decide) rfl (by decide) ?_
      refine R_iload_n dX17_of_235 rfl ?_
      have J20 : RnH [] G l mX17_of (d + 2) (fun v hp1 => v = r ∧ hp1 = hp) noX 248 [.ref p0, .ref p1, .int v2, .int v3] [.int (if v2 = 0 then if v3 = 0 then 0 else 1 else 1)] hp 0 0 := by
        refine V_callS [.int (if v2 = 0 then if v3 = 0 then 0 else 1 else 1)] dX17_of_248 cs_X17_24 rfl rfl (Nat.le_of_ble_eq_true rfl) (s0t_is (d + 0) (if v2 = 0 then if v3 = 0 then 0 else 1 else 1)) ?_
        show RnH [] G l mX17_of (d + 2) (fun v hp1 => v = r ∧ hp1 = hp) noX 251 [.ref p0, .ref p1, .int v2, .int v3] [.int (s0_is (if v2 = 0 then if v3 = 0 then 0 else 1 else 1))] hp 0 0
        exact R_iret dX17_of_251 rfl rfl ⟨h.symm, rfl⟩
      refine R_if_ne 243 dX17_of_236 (by decide) (fun c21 => ?_) (fun c21 => ?_)
      · refine R_iconst (v := 1) dX17_of_243 (by decide) ?_
        refine R_goto 248 dX17_of_244 (by decide) ?_
        simp only [if_neg c21] at J20
        first | exact J20 | (simp only [if_neg c21]; exact J20)
      · refine R_iload_n dX17_of_239 rfl ?_
        refine R_if_eq 247 dX17_of_240 (by decide) (fun c22 => ?_) (fun c22 => ?_)
        · refine R_iconst (v := 0) dX17_of_247 (by decide) ?_
          simp only [if_pos c21, if_pos c22] at J20
          first | exact J20 | (simp only [if_pos c21, if_pos c22]; exact J20)
        · refine R_iconst (v := 1) dX17_of_243 (by decide) ?_
          refine R_goto 248 dX17_of_244 (by decide) ?_
          simp only [if_pos c21, if_neg c22] at J20
          first | exact J20 | (simp only [if_pos c21, if_neg c22]; exact J20)
    · replace e9 : t0 = 47 := Int32.toInt_inj.mp (e9.trans (by decide))
      replace h := h.2.2.2.2.2.2.2.2.2.2.1 e9
      subst e9
      refine R_tabIn 152 dX17_of_22 (by decide) (by decide) rfl (by decide) ?_
      refine R_iload_n dX17_of_152 rfl ?_
      refine R_if_ne 160 dX17_of_153 (by decide) (fun c23 => ?_) (fun c23 => ?_)
      · replace h := h.1 c23
        refine R_iload_n dX17_of_160 rfl ?_
        refine R_iload_n dX17_of_161 rfl ?_
        refine R_idiv dX17_of_162 h.1 ?_
        replace h := h.2
        exact R_iret dX17_of_163 rfl rfl ⟨h.symm, rfl⟩
      · replace h := h.2 c23
        refine R_iconst (v := 0) dX17_of_156 (by decide) ?_
        refine R_goto 163 dX17_of_157 (by decide) ?_
        exact R_iret dX17_of_163 rfl rfl ⟨h.symm, rfl⟩
    · replace e9 : t0 = 48 := Int32.toInt_inj.mp (e9.trans (by decide))
      replace h := h.2.2.2.2.2.2.2.2.2.2.2.1 e9
      subst e9
      refine R_tabIn 235 dX17_of_22 (by decide) (by decide) rfl (by decide) ?_
      refine R_iload_n dX17_of_235 rfl ?_
      have J24 : RnH [] G l mX17_of (d + 2) (fun v hp1 => v = r ∧ hp1 = hp) noX 248 [.ref p0, .ref p1, .int v2, .int v3] [.int (if v2 = 0 then if v3 = 0 then 0 else 1 else 1)] hp 0 0 := by
        refine V_callS [.int (if v2 = 0 then if v3 = 0 then 0 else 1 else 1)] dX17_of_248 cs_X17_24 rfl rfl (Nat.le_of_ble_eq_true rfl) (s0t_is (d + 0) (if v2 = 0 then if v3 = 0 then 0 else 1 else 1)) ?_
        show RnH [] G l mX17_of (d + 2) (fun v hp1 => v = r ∧ hp1 = hp) noX 251 [.ref p0, .ref p1, .int v2, .int v3] [.int (s0_is (if v2 = 0 then if v3 = 0 then 0 else 1 else 1))] hp 0 0
        exact R_iret dX17_of_251 rfl rfl ⟨h.symm, rfl⟩
      refine R_if_ne 243 dX17_of_236 (by decide) (fun c25 => ?_) (fun c25 => ?_)
      · refine R_iconst (v := 1) dX17_of_243 (by decide) ?_
        refine R_goto 248 dX17_of_244 (by decide) ?_
        simp only [if_neg c25] at J24
        first | exact J24 | (simp only [if_neg c25]; exact J24)
      · refine R_iload_n dX17_of_239 rfl ?_
        refine R_if_eq 247 dX17_of_240 (by decide) (fun c26 => ?_) (fun c26 => ?_)
        · refine R_iconst (v := 0) dX17_of_247 (by decide) ?_
          simp only [if_pos c25, if_pos c26] at J24
          first | exact J24 | (simp only [if_pos c25, if_pos c26]; exact J24)
        · refine R_iconst (v := 1) dX17_of_243 (by decide) ?_
          refine R_goto 248 dX17_of_244 (by decide) ?_
          simp only [if_pos c25, if_neg c26] at J24
          first | exact J24 | (simp only [if_pos c25, if_neg c26]; exact J24)
    · replace e9 : t0 = 49 := Int32.toInt_inj.mp (e9.trans (by decide))
      replace h := h.2.2.2.2.2.2.2.2.2.2.2.2.1 e9
      subst e9
      refine R_tabIn 235 dX17_of_22 (by decide) (by decide) rfl (by decide) ?_
      refine R_iload_n dX17_of_235 rfl ?_
      have J27 : RnH [] G l mX17_of (d + 2) (fun v hp1 => v = r ∧ hp1 = hp) noX 248 [.ref p0, .ref p1, .int v2, .int v3] [.int (if v2 = 0 then if v3 = 0 then 0 else 1 else 1)] hp 0 0 := by
        refine V_callS [.int (if v2 = 0 then if v3 = 0 then 0 else 1 else 1)] dX17_of_248 cs_X17_24 rfl rfl (Nat.le_of_ble_eq_true rfl) (s0t_is (d + 0) (if v2 = 0 then if v3 = 0 then 0 else 1 else 1)) ?_
        show RnH [] G l mX17_of (d + 2) (fun v hp1 => v = r ∧ hp1 = hp) noX 251 [.ref p0, .ref p1, .int v2, .int v3] [.int (s0_is (if v2 = 0 then if v3 = 0 then 0 else 1 else 1))] hp 0 0
        exact R_iret dX17_of_251 rfl rfl ⟨h.symm, rfl⟩
      refine R_if_ne 243 dX17_of_236 (by decide) (fun c28 => ?_) (fun c28 => ?_)
      · refine R_iconst (v := 1) dX17_of_243 (by decide) ?_
        refine R_goto 248 dX17_of_244 (by decide) ?_
        simp only [if_neg c28] at J27
        first | exact J27 | (simp only [if_neg c28]; exact J27)
      · refine R_iload_n dX17_of_239 rfl ?_
        refine R_if_eq 247 dX17_of_240 (by decide) (fun c29 => ?_) (fun c29 => ?_)
        · refine R_iconst (v := 0) dX17_of_247 (by decide) ?_
          simp only [if_pos c28, if_pos c29] at J27
          first | exact J27 | (simp only [if_pos c28, if_pos c29]; exact J27)
        · refine R_iconst (v := 1) dX17_of_243 (by decide) ?_
          refine R_goto 248 dX17_of_244 (by decide) ?_
          simp only [if_pos c28, if_neg c29] at J27
          first | exact J27 | (simp only [if_pos c28, if_neg c29]; exact J27)
    · replace e9 : t0 = 50 := Int32.toInt_inj.mp (e9.trans (by decide))
      replace h := h.2.2.2.2.2.2.2.2.2.2.2.2.2.1 e9
      subst e9
      refine R_tabIn 235 dX17_of_22 (by decide) (by decide) rfl (by decide) ?_
      refine R_iload_n dX17_of_235 rfl ?_
      have J30 : RnH [] G l mX17_of (d + 2) (fun v hp1 => v = r ∧ hp1 = hp) noX 248 [.ref p0, .ref p1, .int v2, .int v3] [.int (if v2 = 0 then if v3 = 0 then 0 else 1 else 1)] hp 0 0 := by
        refine V_callS [.int (if v2 = 0 then if v3 = 0 then 0 else 1 else 1)] dX17_of_248 cs_X17_24 rfl rfl (Nat.le_of_ble_eq_true rfl) (s0t_is (d + 0) (if v2 = 0 then if v3 = 0 then 0 else 1 else 1)) ?_
        show RnH [] G l mX17_of (d + 2) (fun v hp1 => v = r ∧ hp1 = hp) noX 251 [.ref p0, .ref p1, .int v2, .int v3] [.int (s0_is (if v2 = 0 then if v3 = 0 then 0 else 1 else 1))] hp 0 0
        exact R_iret dX17_of_251 rfl rfl ⟨h.symm, rfl⟩
      refine R_if_ne 243 dX17_of_236 (by decide) (fun c31 => ?_) (fun c31 => ?_)
      · refine R_iconst (v := 1) dX17_of_243 (by decide) ?_
        refine R_goto 248 dX17_of_244 (by decide) ?_
        simp only [if_neg c31] at J30
        first | exact J30 | (simp only [if_neg c31]; exact J30)
      · refine R_iload_n dX17_of_239 rfl ?_
        refine R_if_eq 247 dX17_of_240 (by decide) (fun c32 => ?_) (fun c32 => ?_)
        · refine R_iconst (v := 0) dX17_of_247 (by decide) ?_
          simp only [if_pos c31, if_pos c32] at J30
          first | exact J30 | (simp only [if_pos c31, if_pos c32]; exact J30)
        · refine R_iconst (v := 1) dX17_of_243 (by decide) ?_
          refine R_goto 248 dX17_of_244 (by decide) ?_
          simp only [if_pos c31, if_neg c32] at J30
          first | exact J30 | (simp only [if_pos c31, if_neg c32]; exact J30)
    · replace e9 : t0 = 51 := Int32.toInt_inj.mp (e9.trans (by decide))
      replace h := h.2.2.2.2.2.2.2.2.2.2.2.2.2.2.1 e9
      subst e9
      refine R_tabIn 235 dX17_of_22 (by decide) (by decide) rfl (by decide) ?_
      refine R_iload_n dX17_of_235 rfl ?_
      have J33 : RnH [] G l mX17_of (d + 2) (fun v hp1 => v = r ∧ hp1 = hp) noX 248 [.ref p0, .ref p1, .int v2, .int v3] [.int (if v2 = 0 then if v3 = 0 then 0 else 1 else 1)] hp 0 0 := by
        refine V_callS [.int (if v2 = 0 then if v3 = 0 then 0 else 1 else 1)] dX17_of_248 cs_X17_24 rfl rfl (Nat.le_of_ble_eq_true rfl) (s0t_is (d + 0) (if v2 = 0 then if v3 = 0 then 0 else 1 else 1)) ?_
        show RnH [] G l mX17_of (d + 2) (fun v hp1 => v = r ∧ hp1 = hp) noX 251 [.ref p0, .ref p1, .int v2, .int v3] [.int (s0_is (if v2 = 0 then if v3 = 0 then 0 else 1 else 1))] hp 0 0
        exact R_iret dX17_of_251 rfl rfl ⟨h.symm, rfl⟩
      refine R_if_ne 243 dX17_of_236 (by decide) (fun c34 => ?_) (fun c34 => ?_)
      · refine R_iconst (v := 1) dX17_of_243 (by decide) ?_
        refine R_goto 248 dX17_of_244 (by decide) ?_
        simp only [if_neg c34] at J33
        first | exact J33 | (simp only [if_neg c34]; exact J33)
      · refine R_iload_n dX17_of_239 rfl ?_
        refine R_if_eq 247 dX17_of_240 (by decide) (fun c35 => ?_) (fun c35 => ?_)
        · refine R_iconst (v := 0) dX17_of_247 (by decide) ?_
          simp only [if_pos c34, if_pos c35] at J33
          first | exact J33 | (simp only [if_pos c34, if_pos c35]; exact J33)
        · refine R_iconst (v := 1) dX17_of_243 (by decide) ?_
          refine R_goto 248 dX17_of_244 (by decide) ?_
          simp only [if_pos c34, if_neg c35] at J33
          first | exact J33 | (simp only [if_pos c34, if_neg c35]; exact J33)
    · replace e9 : t0 = 52 := Int32.toInt_inj.mp (e9.trans (by decide))
      replace h := h.2.2.2.2.2.2.2.2.2.2.2.2.2.2.2.1 e9
      subst e9
      refine R_tabIn 235 dX17_of_22 (by decide) (by decide) rfl (by decide) ?_
      refine R_iload_n dX17_of_235 rfl ?_
      have J36 : RnH [] G l mX17_of (d + 2) (fun v hp1 => v = r ∧ hp1 = hp) noX 248 [.ref p0, .ref p1, .int v2, .int v3] [.int (if v2 = 0 then if v3 = 0 then 0 else 1 else 1)] hp 0 0 := by
        refine V_callS [.int (if v2 = 0 then if v3 = 0 then 0 else 1 else 1)] dX17_of_248 cs_X17_24 rfl rfl (Nat.le_of_ble_eq_true rfl) (s0t_is (d + 0) (if v2 = 0 then if v3 = 0 then 0 else 1 else 1)) ?_
        show RnH [] G l mX17_of (d + 2) (fun v hp1 => v = r ∧ hp1 = hp) noX 251 [.ref p0, .ref p1, .int v2, .int v3] [.int (s0_is (if v2 = 0 then if v3 = 0 then 0 else 1 else 1))] hp 0 0
        exact R_iret dX17_of_251 rfl rfl ⟨h.symm, rfl⟩
      refine R_if_ne 243 dX17_of_236 (by decide) (fun c37 => ?_) (fun c37 => ?_)
      · refine R_iconst (v := 1) dX17_of_243 (by decide) ?_
        refine R_goto 248 dX17_of_244 (by decide) ?_
        simp only [if_neg c37] at J36
        first | exact J36 | (simp only [if_neg c37]; exact J36)
      · refine R_iload_n dX17_of_239 rfl ?_
        refine R_if_eq 247 dX17_of_240 (by decide) (fun c38 => ?_) (fun c38 => ?_)
        · refine R_iconst (v := 0) dX17_of_247 (by decide) ?_
          simp only [if_pos c37, if_pos c38] at J36
          first | exact J36 | (simp only [if_pos c37, if_pos c38]; exact J36)
        · refine R_iconst (v := 1) dX17_of_243 (by decide) ?_
          refine R_goto 248 dX17_of_244 (by decide) ?_
          simp only [if_pos c37, if_neg c38] at J36
          first | exact J36 | (simp only [if_pos c37, if_neg c38]; exact J36)
    · replace e9 : t0 = 53 := Int32.toInt_inj.mp (e9.trans (by decide))
      replace h := h.2.2.2.2.2.2.2.2.2.2.2.2.2.2.2.2.1 e9
      subst e9
      refine R_tabIn 235 dX17_of_22 (by decide) (by decide) rfl (by decide) ?_
      refine R_iload_n dX17_of_235 rfl ?_
      have J39 : RnH [] G l mX17_of (d + 2) (fun v hp1 => v = r ∧ hp1 = hp) noX 248 [.ref p0, .ref p1, .int v2, .int v3] [.int (if v2 = 0 then if v3 = 0 then 0 else 1 else 1)] hp 0 0 := by
        refine V_callS [.int (if v2 = 0 then if v3 = 0 then 0 else 1 else 1)] dX17_of_248 cs_X17_24 rfl rfl (Nat.le_of_ble_eq_true rfl) (s0t_is (d + 0) (if v2 = 0 then if v3 = 0 then 0 else 1 else 1)) ?_
        show RnH [] G l mX17_of (d + 2) (fun v hp1 => v = r ∧ hp1 = hp) noX 251 [.ref p0, .ref p1, .int v2, .int v3] [.int (s0_is (if v2 = 0 then if v3 = 0 then 0 else 1 else 1))] hp 0 0
        exact R_iret dX17_of_251 rfl rfl ⟨h.symm, rfl⟩
      refine R_if_ne 243 dX17_of_236 (by decide) (fun c40 => ?_) (fun c40 => ?_)
      · refine R_iconst (v := 1) dX17_of_243 (by decide) ?_
        refine R_goto 248 dX17_of_244 (by decide) ?_
        simp only [if_neg c40] at J39
        first | exact J39 | (simp only [if_neg c40]; exact J39)
      · refine R_iload_n dX17_of_239 rfl ?_
        refine R_if_eq 247 dX17_of_240 (by decide) (fun c41 => ?_) (fun c41 => ?_)
        · refine R_iconst (v := 0) dX17_of_247 (by decide) ?_
          simp only [if_pos c40, if_pos c41] at J39
          first | exact J39 | (simp only [if_pos c40, if_pos c41]; exact J39)
        · refine R_iconst (v := 1) dX17_of_243 (by decide) ?_
          refine R_goto 248 dX17_of_244 (by decide) ?_
          simp only [if_pos c40, if_neg c41] at J39
          first | exact J39 | (simp only [if_pos c40, if_neg c41]; exact J39)
    · replace e9 : t0 = 54 := Int32.toInt_inj.mp (e9.trans (by decide))
      replace h := h.2.2.2.2.2.2.2.2.2.2.2.2.2.2.2.2.2.1 e9
      subst e9
      refine R_tabIn 235 dX17_of_22 (by decide) (by decide) rfl (by decide) ?_
      refine R_iload_n dX17_of_235 rfl ?_
      have J42 : RnH [] G l mX17_of (d + 2) (fun v hp1 => v = r ∧ hp1 = hp) noX 248 [.ref p0, .ref p1, .int v2, .int v3] [.int (if v2 = 0 then if v3 = 0 then 0 else 1 else 1)] hp 0 0 := by
        refine V_callS [.int (if v2 = 0 then if v3 = 0 then 0 else 1 else 1)] dX17_of_248 cs_X17_24 rfl rfl (Nat.le_of_ble_eq_true rfl) (s0t_is (d + 0) (if v2 = 0 then if v3 = 0 then 0 else 1 else 1)) ?_
        show RnH [] G l mX17_of (d + 2) (fun v hp1 => v = r ∧ hp1 = hp) noX 251 [.ref p0, .ref p1, .int v2, .int v3] [.int (s0_is (if v2 = 0 then if v3 = 0 then 0 else 1 else 1))] hp 0 0
        exact R_iret dX17_of_251 rfl rfl ⟨h.symm, rfl⟩
      refine R_if_ne 243 dX17_of_236 (by decide) (fun c43 => ?_) (fun c43 => ?_)
      · refine R_iconst (v := 1) dX17_of_243 (by decide) ?_
        refine R_goto 248 dX17_of_244 (by decide) ?_
        simp only [if_neg c43] at J42
        first | exact J42 | (simp only [if_neg c43]; exact J42)
      · refine R_iload_n dX17_of_239 rfl ?_
        refine R_if_eq 247 dX17_of_240 (by decide) (fun c44 => ?_) (fun c44 => ?_)
        · refine R_iconst (v := 0) dX17_of_247 (by decide) ?_
          simp only [if_pos c43, if_pos c44] at J42
          first | exact J42 | (simp only [if_pos c43, if_pos c44]; exact J42)
        · refine R_iconst (v := 1) dX17_of_243 (by decide) ?_
          refine R_goto 248 dX17_of_244 (by decide) ?_
          simp only [if_pos c43, if_neg c44] at J42
          first | exact J42 | (simp only [if_pos c43, if_neg c44]; exact J42)
    · replace e9 : t0 = 55 := Int32.toInt_inj.mp (e9.trans (by decide))
      replace h := h.2.2.2.2.2.2.2.2.2.2.2.2.2.2.2.2.2.2.1 e9
      subst e9
      refine R_tabIn 235 dX17_of_22 (by decide) (by decide) rfl (by decide) ?_
      refine R_iload_n dX17_of_235 rfl ?_
      have J45 : RnH [] G l mX17_of (d + 2) (fun v hp1 => v = r ∧ hp1 = hp) noX 248 [.ref p0, .ref p1, .int v2, .int v3] [.int (if v2 = 0 then if v3 = 0 then 0 else 1 else 1)] hp 0 0 := by
        refine V_callS [.int (if v2 = 0 then if v3 = 0 then 0 else 1 else 1)] dX17_of_248 cs_X17_24 rfl rfl (Nat.le_of_ble_eq_true rfl) (s0t_is (d + 0) (if v2 = 0 then if v3 = 0 then 0 else 1 else 1)) ?_
        show RnH [] G l mX17_of (d + 2) (fun v hp1 => v = r ∧ hp1 = hp) noX 251 [.ref p0, .ref p1, .int v2, .int v3] [.int (s0_is (if v2 = 0 then if v3 = 0 then 0 else 1 else 1))] hp 0 0
        exact R_iret dX17_of_251 rfl rfl ⟨h.symm, rfl⟩
      refine R_if_ne 243 dX17_of_236 (by decide) (fun c46 => ?_) (fun c46 => ?_)
      · refine R_iconst (v := 1) dX17_of_243 (by decide) ?_
        refine R_goto 248 dX17_of_244 (by decide) ?_
        simp only [if_neg c46] at J45
        first | exact J45 | (simp only [if_neg c46]; exact J45)
      · refine R_iload_n dX17_of_239 rfl ?_
        refine R_if_eq 247 dX17_of_240 (by decide) (fun c47 => ?_) (fun c47 => ?_)
        · refine R_iconst (v := 0) dX17_of_247 (by decide) ?_
          simp only [if_pos c46, if_pos c47] at J45
          first | exact J45 | (simp only [if_pos c46, if_pos c47]; exact J45)
        · refine R_iconst (v := 1) dX17_of_243 (by decide) ?_
          refine R_goto 248 dX17_of_244 (by decide) ?_
          simp only [if_pos c46, if_neg c47] at J45
          first | exact J45 | (simp only [if_pos c46, if_neg c47]; exact J45)
    · replace e9 : t0 = 56 := Int32.toInt_inj.mp (e9.trans (by decide))
      replace h := h.2.2.2.2.2.2.2.2.2.2.2.2.2.2.2.2.2.2.2.1 e9
      subst e9
      refine R_tabIn 235 dX17_of_22 (by decide) (by decide) rfl (by decide) ?_
      refine R_iload_n dX17_of_235 rfl ?_
      have J48 : RnH [] G l mX17_of (d + 2) (fun v hp1 => v = r ∧ hp1 = hp) noX 248 [.ref p0, .ref p1, .int v2, .int v3] [.int (if v2 = 0 then if v3 = 0 then 0 else 1 else 1)] hp 0 0 := by
        refine V_callS [.int (if v2 = 0 then if v3 = 0 then 0 else 1 else 1)] dX17_of_248 cs_X17_24 rfl rfl (Nat.le_of_ble_eq_true rfl) (s0t_is (d + 0) (if v2 = 0 then if v3 = 0 then 0 else 1 else 1)) ?_
        show RnH [] G l mX17_of (d + 2) (fun v hp1 => v = r ∧ hp1 = hp) noX 251 [.ref p0, .ref p1, .int v2, .int v3] [.int (s0_is (if v2 = 0 then if v3 = 0 then 0 else 1 else 1))] hp 0 0
        exact R_iret dX17_of_251 rfl rfl ⟨h.symm, rfl⟩
      refine R_if_ne 243 dX17_of_236 (by decide) (fun c49 => ?_) (fun c49 => ?_)
      · refine R_iconst (v := 1) dX17_of_243 (by decide) ?_
        refine R_goto 248 dX17_of_244 (by decide) ?_
        simp only [if_neg c49] at J48
        first | exact J48 | (simp only [if_neg c49]; exact J48)
      · refine R_iload_n dX17_of_239 rfl ?_
        refine R_if_eq 247 dX17_of_240 (by decide) (fun c50 => ?_) (fun c50 => ?_)
        · refine R_iconst (v := 0) dX17_of_247 (by decide) ?_
          simp only [if_pos c49, if_pos c50] at J48
          first | exact J48 | (simp only [if_pos c49, if_pos c50]; exact J48)
        · refine R_iconst (v := 1) dX17_of_243 (by decide) ?_
          refine R_goto 248 dX17_of_244 (by decide) ?_
          simp only [if_pos c49, if_neg c50] at J48
          first | exact J48 | (simp only [if_pos c49, if_neg c50]; exact J48)
    · replace e9 : t0 = 57 := Int32.toInt_inj.mp (e9.trans (by decide))
      replace h := h.2.2.2.2.2.2.2.2.2.2.2.2.2.2.2.2.2.2.2.2.1 e9
      subst e9
      refine R_tabIn 235 dX17_of_22 (by decide) (by decide) rfl (by decide) ?_
      refine R_iload_n dX17_of_235 rfl ?_
      have J51 : RnH [] G l mX17_of (d + 2) (fun v hp1 => v = r ∧ hp1 = hp) noX 248 [.ref p0, .ref p1, .int v2, .int v3] [.int (if v2 = 0 then if v3 = 0 then 0 else 1 else 1)] hp 0 0 := by
        refine V_callS [.int (if v2 = 0 then if v3 = 0 then 0 else 1 else 1)] dX17_of_248 cs_X17_24 rfl rfl (Nat.le_of_ble_eq_true rfl) (s0t_is (d + 0) (if v2 = 0 then if v3 = 0 then 0 else 1 else 1)) ?_
        show RnH [] G l mX17_of (d + 2) (fun v hp1 => v = r ∧ hp1 = hp) noX 251 [.ref p0, .ref p1, .int v2, .int v3] [.int (s0_is (if v2 = 0 then if v3 = 0 then 0 else 1 else 1))] hp 0 0
        exact R_iret dX17_of_251 rfl rfl ⟨h.symm, rfl⟩
      refine R_if_ne 243 dX17_of_236 (by decide) (fun c52 => ?_) (fun c52 => ?_)
      · refine R_iconst (v := 1) dX17_of_243 (by decide) ?_
        refine R_goto 248 dX17_of_244 (by decide) ?_
        simp only [if_neg c52] at J51
        first | exact J51 | (simp only [if_neg c52]; exact J51)
      · refine R_iload_n dX17_of_239 rfl ?_
        refine R_if_eq 247 dX17_of_240 (by decide) (fun c53 => ?_) (fun c53 => ?_)
        · refine R_iconst (v := 0) dX17_of_247 (by decide) ?_
          simp only [if_pos c52, if_pos c53] at J51
          first | exact J51 | (simp only [if_pos c52, if_pos c53]; exact J51)
        · refine R_iconst (v := 1) dX17_of_243 (by decide) ?_
          refine R_goto 248 dX17_of_244 (by decide) ?_
          simp only [if_pos c52, if_neg c53] at J51
          first | exact J51 | (simp only [if_pos c52, if_neg c53]; exact J51)
    · replace e9 : t0 = 58 := Int32.toInt_inj.mp (e9.trans (by decide))
      replace h := h.2.2.2.2.2.2.2.2.2.2.2.2.2.2.2.2.2.2.2.2.2.1 e9
      subst e9
      refine R_tabIn 235 dX17_of_22 (by decide) (by decide) rfl (by decide) ?_
      refine R_iload_n dX17_of_235 rfl ?_
      have J54 : RnH [] G l mX17_of (d + 2) (fun v hp1 => v = r ∧ hp1 = hp) noX 248 [.ref p0, .ref p1, .int v2, .int v3] [.int (if v2 = 0 then if v3 = 0 then 0 else 1 else 1)] hp 0 0 := by
        refine V_callS [.int (if v2 = 0 then if v3 = 0 then 0 else 1 else 1)] dX17_of_248 cs_X17_24 rfl rfl (Nat.le_of_ble_eq_true rfl) (s0t_is (d + 0) (if v2 = 0 then if v3 = 0 then 0 else 1 else 1)) ?_
        show RnH [] G l mX17_of (d + 2) (fun v hp1 => v = r ∧ hp1 = hp) noX 251 [.ref p0, .ref p1, .int v2, .int v3] [.int (s0_is (if v2 = 0 then if v3 = 0 then 0 else 1 else 1))] hp 0 0
        exact R_iret dX17_of_251 rfl rfl ⟨h.symm, rfl⟩
      refine R_if_ne 243 dX17_of_236 (by decide) (fun c55 => ?_) (fun c55 => ?_)
      · refine R_iconst (v := 1) dX17_of_243 (by decide) ?_
        refine R_goto 248 dX17_of_244 (by decide) ?_
        simp only [if_neg c55] at J54
        first | exact J54 | (simp only [if_neg c55]; exact J54)
      · refine R_iload_n dX17_of_239 rfl ?_
        refine R_if_eq 247 dX17_of_240 (by decide) (fun c56 => ?_) (fun c56 => ?_)
        · refine R_iconst (v := 0) dX17_of_247 (by decide) ?_
          simp only [if_pos c55, if_pos c56] at J54
          first | exact J54 | (simp only [if_pos c55, if_pos c56]; exact J54)
        · refine R_iconst (v := 1) dX17_of_243 (by decide) ?_
          refine R_goto 248 dX17_of_244 (by decide) ?_
          simp only [if_pos c55, if_neg c56] at J54
          first | exact J54 | (simp only [if_pos c55, if_neg c56]; exact J54)
    · replace e9 : t0 = 59 := Int32.toInt_inj.mp (e9.trans (by decide))
      replace h := h.2.2.2.2.2.2.2.2.2.2.2.2.2.2.2.2.2.2.2.2.2.2.1 e9
      subst e9
      refine R_tabIn 235 dX17_of_22 (by decide) (by decide) rfl (by decide) ?_
      refine R_iload_n dX17_of_235 rfl ?_
      have J57 : RnH [] G l mX17_of (d + 2) (fun v hp1 => v = r ∧ hp1 = hp) noX 248 [.ref p0, .ref p1, .int v2, .int v3] [.int (if v2 = 0 then if v3 = 0 then 0 else 1 else 1)] hp 0 0 := by
        refine V_callS [.int (if v2 = 0 then if v3 = 0 then 0 else 1 else 1)] dX17_of_248 cs_X17_24 rfl rfl (Nat.le_of_ble_eq_true rfl) (s0t_is (d + 0) (if v2 = 0 then if v3 = 0 then 0 else 1 else 1)) ?_
        show RnH [] G l mX17_of (d + 2) (fun v hp1 => v = r ∧ hp1 = hp) noX 251 [.ref p0, .ref p1, .int v2, .int v3] [.int (s0_is (if v2 = 0 then if v3 = 0 then 0 else 1 else 1))] hp 0 0
        exact R_iret dX17_of_251 rfl rfl ⟨h.symm, rfl⟩
      refine R_if_ne 243 dX17_of_236 (by decide) (fun c58 => ?_) (fun c58 => ?_)
      · refine R_iconst (v := 1) dX17_of_243 (by decide) ?_
        refine R_goto 248 dX17_of_244 (by decide) ?_
        simp only [if_neg c58] at J57
        first | exact J57 | (simp only [if_neg c58]; exact J57)
      · refine R_iload_n dX17_of_239 rfl ?_
        refine R_if_eq 247 dX17_of_240 (by decide) (fun c59 => ?_) (fun c59 => ?_)
        · refine R_iconst (v := 0) dX17_of_247 (by decide) ?_
          simp only [if_pos c58, if_pos c59] at J57
          first | exact J57 | (simp only [if_pos c58, if_pos c59]; exact J57)
        · refine R_iconst (v := 1) dX17_of_243 (by decide) ?_
          refine R_goto 248 dX17_of_244 (by decide) ?_
          simp only [if_pos c58, if_neg c59] at J57
          first | exact J57 | (simp only [if_pos c58, if_neg c59]; exact J57)
    · replace e9 : t0 = 60 := Int32.toInt_inj.mp (e9.trans (by decide))
      replace h := h.2.2.2.2.2.2.2.2.2.2.2.2.2.2.2.2.2.2.2.2.2.2.2.1 e9
      subst e9
      refine R_tabIn 176 dX17_of_22 (by decide) (by decide) rfl (by decide) ?_
      refine R_iload_n dX17_of_176 rfl ?_
      refine R_iload_n dX17_of_177 rfl ?_
      have J60 : RnH [] G l mX17_of (d + 2) (fun v hp1 => v = r ∧ hp1 = hp) noX 186 [.ref p0, .ref p1, .int v2, .int v3] [.int (if v3 ≤ v2 then 0 else 1)] hp 0 0 := by
        refine V_callS [.int (if v3 ≤ v2 then 0 else 1)] dX17_of_186 cs_X17_24 rfl rfl (Nat.le_of_ble_eq_true rfl) (s0t_is (d + 0) (if v3 ≤ v2 then 0 else 1)) ?_
        show RnH [] G l mX17_of (d + 2) (fun v hp1 => v = r ∧ hp1 = hp) noX 189 [.ref p0, .ref p1, .int v2, .int v3] [.int (s0_is (if v3 ≤ v2 then 0 else 1))] hp 0 0
        exact R_iret dX17_of_189 rfl rfl ⟨h.symm, rfl⟩
      refine R_icmp_ge 185 dX17_of_178 (by decide) (fun c61 => ?_) (fun c61 => ?_)
      · refine R_iconst (v := 0) dX17_of_185 (by decide) ?_
        simp only [if_pos c61] at J60
        first | exact J60 | (simp only [if_pos c61]; exact J60)
      · refine R_iconst (v := 1) dX17_of_181 (by decide) ?_
        refine R_goto 186 dX17_of_182 (by decide) ?_
        simp only [if_neg c61] at J60
        first | exact J60 | (simp only [if_neg c61]; exact J60)
    · replace e9 : t0 = 61 := Int32.toInt_inj.mp (e9.trans (by decide))
      replace h := h.2.2.2.2.2.2.2.2.2.2.2.2.2.2.2.2.2.2.2.2.2.2.2.2.1 e9
      subst e9
      refine R_tabIn 204 dX17_of_22 (by decide) (by decide) rfl (by decide) ?_
      refine R_iload_n dX17_of_204 rfl ?_
      refine R_iload_n dX17_of_205 rfl ?_
      have J62 : RnH [] G l mX17_of (d + 2) (fun v hp1 => v = r ∧ hp1 = hp) noX 214 [.ref p0, .ref p1, .int v2, .int v3] [.int (if v2 = v3 then 1 else 0)] hp 0 0 := by
        refine V_callS [.int (if v2 = v3 then 1 else 0)] dX17_of_214 cs_X17_24 rfl rfl (Nat.le_of_ble_eq_true rfl) (s0t_is (d + 0) (if v2 = v3 then 1 else 0)) ?_
        show RnH [] G l mX17_of (d + 2) (fun v hp1 => v = r ∧ hp1 = hp) noX 217 [.ref p0, .ref p1, .int v2, .int v3] [.int (s0_is (if v2 = v3 then 1 else 0))] hp 0 0
        exact R_iret dX17_of_217 rfl rfl ⟨h.symm, rfl⟩
      refine R_icmp_ne 213 dX17_of_206 (by decide) (fun c63 => ?_) (fun c63 => ?_)
      · refine R_iconst (v := 0) dX17_of_213 (by decide) ?_
        simp only [if_neg c63] at J62
        first | exact J62 | (simp only [if_neg c63]; exact J62)
      · refine R_iconst (v := 1) dX17_of_209 (by decide) ?_
        refine R_goto 214 dX17_of_210 (by decide) ?_
        simp only [if_pos c63] at J62
        first | exact J62 | (simp only [if_pos c63]; exact J62)
    · replace e9 : t0 = 62 := Int32.toInt_inj.mp (e9.trans (by decide))
      replace h := h.2.2.2.2.2.2.2.2.2.2.2.2.2.2.2.2.2.2.2.2.2.2.2.2.2 e9
      subst e9
      refine R_tabIn 190 dX17_of_22 (by decide) (by decide) rfl (by decide) ?_
      refine R_iload_n dX17_of_190 rfl ?_
      refine R_iload_n dX17_of_191 rfl ?_
      have J64 : RnH [] G l mX17_of (d + 2) (fun v hp1 => v = r ∧ hp1 = hp) noX 200 [.ref p0, .ref p1, .int v2, .int v3] [.int (if v2 ≤ v3 then 0 else 1)] hp 0 0 := by
        refine V_callS [.int (if v2 ≤ v3 then 0 else 1)] dX17_of_200 cs_X17_24 rfl rfl (Nat.le_of_ble_eq_true rfl) (s0t_is (d + 0) (if v2 ≤ v3 then 0 else 1)) ?_
        show RnH [] G l mX17_of (d + 2) (fun v hp1 => v = r ∧ hp1 = hp) noX 203 [.ref p0, .ref p1, .int v2, .int v3] [.int (s0_is (if v2 ≤ v3 then 0 else 1))] hp 0 0
        exact R_iret dX17_of_203 rfl rfl ⟨h.symm, rfl⟩
      refine R_icmp_le 199 dX17_of_192 (by decide) (fun c65 => ?_) (fun c65 => ?_)
      · refine R_iconst (v := 0) dX17_of_199 (by decide) ?_
        simp only [if_pos c65] at J64
        first | exact J64 | (simp only [if_pos c65]; exact J64)
      · refine R_iconst (v := 1) dX17_of_195 (by decide) ?_
        refine R_goto 200 dX17_of_196 (by decide) ?_
        simp only [if_neg c65] at J64
        first | exact J64 | (simp only [if_neg c65]; exact J64)
