/-! lists that are read, copies of rows of numbers, the formula's worth -/
set_option maxRecDepth 100000
section Copy
variable {hh : List (Nat × Nat × Nat × Nat)} {G : Wd} {l : Launch} {M : MD} {d : Nat} {P : Option Value → Hp → Prop} {X : Nat → Hp → Prop} {pc : Nat} {ls st : List Value} {hp : Hp} {c k : Nat} {H : Heap}
theorem R_copyi {index a0 a n0 n1 : Nat} {f g0 : Nat → Int32} {sp dp n : Int32} (hd : decode M.2.1 pc = .ok (.invokestatic index, 3)) (hq : Cond.methodLink M.1.cls index arraycopyName ∈ lw_all) (hq2 : Cond.native arraycopyName ∈ lw_all ∧ Cond.static arraycopyName ∈ lw_all ∧ Cond.initialized "java/lang/System" ∈ lw_all) (ha0 : a0 < hp.2) (he0 : hp.1 a0 = .inl (0, n0, .inl f)) (ha : a < hp.2) (hK : K0 ≤ a) (he : hp.1 a = .inl (0, n1, .inl g0)) (b1 : ¬ sp < 0) (b2 : ¬ dp < 0) (b3 : ¬ n < 0) (b4 : sp.toNatClampNeg + n.toNatClampNeg ≤ n0) (b5 : dp.toNatClampNeg + n.toNatClampNeg ≤ n1) (hw : (st.map Value.category).sum ≤ 8)
    (kk : RnH hh G l M (d + 1) P X (pc + 3) ls st (hset hp a (.inl (0, n1, .inl (va_cpy f g0 sp.toNatClampNeg dp.toNatClampNeg n.toNatClampNeg)))) c k) : RnH hh G l M (d + 1) P X pc ls (.int n :: .int dp :: .ref a :: .int sp :: .ref a0 :: st) hp c k := by
  intro p e s m args below meth cd mc ms H locs cells slots la C g S L h1 h2
  have hts := C.2.2.2.2.2.2.1
  have W0 := C.2.2.2.2.2.2.2.1.1
  have hK0 := C.2.2.2.2.2.2.2.1.2.1
  have nn : ∀ z : Int32, ¬ z < 0 → z.toInt = (z.toNatClampNeg : Int) := by
    intro z hz
    have hz0 : (0 : Int) ≤ z.toInt := by
      have := Int32.not_lt.mp hz
      simpa using Int32.le_iff_toInt_le.mp this
    show z.toInt = ((z.toInt.toNat : Nat) : Int)
    omega
  intro T hT Y
  have hc0 : H[G.1 a0]? = some (arrV (G.2.2.1 0) n0 (fun j => .int (f j))) := (g.one ha0 he0 ne_a) 0 _ rfl
  have hc1 : H[G.1 a]? = some (arrV (G.2.2.1 0) n1 (fun j => .int (g0 j))) := (g.one ha he ne_a) 0 _ rfl
  have hk9 : (tysA G)[0]? = some (G.2.2.1 0, .int) := rfl
  obtain ⟨-, k0, hk0, cm0, hkk0⟩ := (hK0.2 0 _ hk9).1 n0 (fun j => .int (f j))
  obtain ⟨-, k1, hk1, cm1, hkk1⟩ := (hK0.2 0 _ hk9).1 n1 (fun j => .int (g0 j))
  have hcat := cat_map (G := G) (m := m) (pc := pc) (la := la) (st0 := []) st hw
  obtain ⟨vm', X', step⟩ := Y.arraycopy C.1 C.2.2.2.2.2.1 (hts _ hq) (hts _ hq2.1) (hts _ hq2.2.1) (hts _ hq2.2.2) (src := G.1 a0) (dst := G.1 a) (cs := arrV (G.2.2.1 0) n0 (fun j => .int (f j))) (cd := arrV (G.2.2.1 0) n1 (fun j => .int (g0 j))) (srcPos := sp) (destPos := dp) (n := n) (by rw [hT]; exact hc0) (by rw [hT]; exact hc1)
    (fun _ h => by cases h) (fun _ h => by cases h) (fun h => by cases h) (fun h => by cases h) hk0 hk1 hkk0 hkk1 (by simp [refKind]) b1 b2 b3
    (by rw [nn sp b1, nn n b3, arrV_size]; omega)
    (by rw [nn dp b2, nn n b3, arrV_size]; omega)
    (fun vm₁ _ i hi => by
      have e : (arrV (G.2.2.1 0) n0 (fun j => .int (f j))).slots.getD (sp.toNatClampNeg + i) .null = .int (f (sp.toNatClampNeg + i)) := by
        rw [Array.getD_eq_getD_getElem?, arrV_read _ _ (by omega)]
        rfl
      refine ⟨?_, ?_⟩
      · rw [e]
        rfl
      · rw [e]
        exact trivial)
    (g := F0 m pc la (.int n :: .int dp :: .ref (G.1 a) :: .int sp :: .ref (G.1 a0) :: st.map (cv G))) rfl (by rw [C.2.2.1]; exact L.1) (rest := st.map (cv G)) rfl (by rw [C.2.1]; exact hd) (by show 1 ≤ d + 1; omega) (by
      have hz : nativeFrameWords "java/lang/System" "arraycopy" 5 ≤ 60 := by decide
      have hz2 : (F0 m pc la ([] : List Value)).monitorRoom = 0 := rfl
      show 2 * 0 + ((st.map (cv G)).map fun v => v.category).sum + (nativeFrameWords "java/lang/System" "arraycopy" 5 + 11) ≤ 100 * (d + 1)
      rw [hz2] at hcat
      omega)
  have e1 : copied (arrV (G.2.2.1 0) n0 (fun j => .int (f j))) (arrV (G.2.2.1 0) n1 (fun j => .int (g0 j))) sp dp n = arrV (G.2.2.1 0) n1 (fun j => .int (va_cpy f g0 sp.toNatClampNeg dp.toNatClampNeg n.toNatClampNeg j)) := va_copied (fun z => .int z) _ _ f g0 b4
  rw [e1] at X' step
  have hl : G.1 a < H.size := (Array.getElem?_eq_some_iff.mp hc1).1
  have hheap : ((T.setVm vm').setCell (G.1 a) (arrV (G.2.2.1 0) n1 (fun j => .int (va_cpy f g0 sp.toNatClampNeg dp.toNatClampNeg n.toNatClampNeg j)))).heap = H.setIfInBounds (G.1 a) (arrV (G.2.2.1 0) n1 (fun j => .int (va_cpy f g0 sp.toNatClampNeg dp.toNatClampNeg n.toNatClampNeg j))) := by rw [← hT]; rfl
  have oq : ∀ q : Nat, q ≠ G.1 a → (H.setIfInBounds (G.1 a) (arrV (G.2.2.1 0) n1 (fun j => .int (va_cpy f g0 sp.toNatClampNeg dp.toNatClampNeg n.toNatClampNeg j))))[q]? = H[q]? := fun q hq => by simp [Array.getElem?_setIfInBounds, Ne.symm hq]
  have hset' : (H.setIfInBounds (G.1 a) (arrV (G.2.2.1 0) n1 (fun j => .int (va_cpy f g0 sp.toNatClampNeg dp.toNatClampNeg n.toNatClampNeg j))))[G.1 a]? = some (arrV (G.2.2.1 0) n1 (fun j => .int (va_cpy f g0 sp.toNatClampNeg dp.toNatClampNeg n.toNatClampNeg j))) := by simp [Array.getElem?_setIfInBounds, hl]
  obtain ⟨t, a1, b1⟩ := kk p e s m args below meth cd mc ms _ _ cells slots la C (g.set W0 hK (e := .inl (0, n1, .inl (va_cpy f g0 sp.toNatClampNeg dp.toNatClampNeg n.toNatClampNeg))) hset' (by simp) oq) (⟨by simp; exact S.1, fun q g1 g2 => by
      rw [oq q (fun e => g2 (by rw [e]; exact aA_of W0 hK))]
      exact S.2.1 q g1 g2, fun q hq => by
      rcases List.mem_append.mp hq with h | h
      · exact S.2.2 q h
      · obtain ⟨z, -, hz⟩ := List.mem_map.mp h
        rw [← hz]
        exact aA_of W0 hK⟩) L h1 h2 _ hheap X'
  exact ⟨t, step t a1, b1⟩
variable {A : Nat → Nat} {σ : Sg} {R : Rg}
theorem V_copy {index o q n0 n1 : Nat} {n : Int32} {σ9 : Sg} (hA : okA R A hp) (hd : decode M.2.1 pc = .ok (.invokestatic index, 3)) (hq : Cond.methodLink M.1.cls index arraycopyName ∈ lw_all) (b3 : ¬ n < 0) (b4 : n.toNatClampNeg ≤ min n0 n1) (ho : (o < R.2.2 ∧ R.1 o = (1, 0, n0) ∧ q < R.2.2 ∧ R.1 q = (1, 0, n1))) (hw : (st.map Value.category).sum ≤ 8) (h9 : (upA σ.1 q (va_cpy (σ.1 o) (σ.1 q) 0 0 n.toNatClampNeg), σ.2) = σ9)
    (kk : RnH hh G l M (d + 1) P X (pc + 3) ls st (ov R A σ9 hp) c k) : RnH hh G l M (d + 1) P X pc ls (.int n :: .int 0 :: .ref (A q) :: .int 0 :: .ref (A o) :: st) (ov R A σ hp) c k := by
  subst h9
  have e := ov_at (σ := σ) hA ho.1
  unfold ceR at e
  rw [ho.2.1] at e
  have e2 := ov_at (σ := σ) hA ho.2.2.1
  unfold ceR at e2
  rw [ho.2.2.2] at e2
  have hm : min n0 n1 ≤ n0 ∧ min n0 n1 ≤ n1 := ⟨Nat.min_le_left _ _, Nat.min_le_right _ _⟩
  have z0 : (0 : Int32).toNatClampNeg = 0 := by decide
  refine R_copyi hd hq ⟨q865, q864, q140⟩ (hA.1 o ho.1).2 e (hA.1 q ho.2.2.1).2 (hA.1 q ho.2.2.1).1 e2 (by decide) (by decide) b3 (by rw [z0]; omega) (by rw [z0]; omega) hw ?_
  rw [ov_row hA ⟨ho.2.2.1, ho.2.2.2⟩, z0]
  exact kk
end Copy
theorem stj_ck (d : Nat) {i n : Nat} (hi : i < n) (hn : n < 2 ^ 31) (v : Value) (hv : isRv v) : St8 mJ6_checkIndex (d + 1) [.int (nI i), .int (nI n), v] (some (.int (nI i))) := by
  have hu : ∃ w, eL [.int (nI i), .int (nI n), v] 3 = [.int (nI i), .int (nI n), v] ∧ w = 0 := ⟨0, by rcases hv with rfl | ⟨a, rfl⟩ <;> rfl, rfl⟩
  obtain ⟨-, hu, -⟩ := hu
  refine St8.of (by decide) hu (fun G => by rcases hv with rfl | ⟨a, rfl⟩ <;> exact Nat.le_of_ble_eq_true rfl) ?_
  intro G l hp
  refine R_iload_n dJ6_checkIndex_0 rfl ?_
  refine R_if_lt 9 dJ6_checkIndex_1 (by decide) (fun c1 => absurd c1 (nI_pos (by omega))) (fun _ => ?_)
  refine R_iload_n dJ6_checkIndex_4 rfl ?_
  refine R_iload_n dJ6_checkIndex_5 rfl ?_
  refine R_icmp_lt 16 dJ6_checkIndex_6 (by decide) (fun _ => ?_) (fun c1 => absurd (nI_lt hi hn) c1)
  refine R_iload_n dJ6_checkIndex_16 rfl ?_
  exact R_iret dJ6_checkIndex_17 rfl rfl ⟨rfl, rfl⟩
theorem stj_ck5 (d : Nat) {i n : Nat} (hi : i < n) (hn : n < 2 ^ 31) : St8 mJ5_checkIndex (d + 2) [.int (nI i), .int (nI n)] (some (.int (nI i))) := by
  refine St8.of (by decide) rfl (fun G => Nat.le_of_ble_eq_true rfl) ?_
  intro G l hp
  refine R_iload_n dJ5_checkIndex_0 rfl ?_
  refine R_iload_n dJ5_checkIndex_1 rfl ?_
  refine R_aconst_null dJ5_checkIndex_2 ?_
  refine V_callS [.int (nI i), .int (nI n), .null] dJ5_checkIndex_3 cs_J5_105 rfl rfl (Nat.le_of_ble_eq_true rfl) (stj_ck d hi hn .null (Or.inl rfl)) ?_
  exact R_iret dJ5_checkIndex_6 rfl rfl ⟨rfl, rfl⟩
/-- a list at L: its modCount, its row, how many -/
def isLs (hp : Hp) (L : Nat) (mc : Int32) (ed n : Nat) : Prop := L < hp.2 ∧ hp.1 L = .inr (16, [.int mc, .ref ed, .int (nI n)])
def isRw (hp : Hp) (e cap : Nat) (f : Nat → Option Nat) : Prop := e < hp.2 ∧ hp.1 e = .inl (4, cap, .inr (.inr (.inr (.inr f))))
theorem ev_size (d : Nat) {G : Wd} {l : Launch} {hp : Hp} {L ed n : Nat} {mc : Int32} (h : isLs hp L mc ed n) : Ev G l mJ2_size (d + 1) 0 0 [.ref L] hp (fun v hp1 => v = some (.int (nI n)) ∧ hp1 = hp) := by
  refine Ev.of (by decide) (Nat.le_of_ble_eq_true rfl) ?_
  refine R_aload_n dJ2_size_0 rfl ?_
  refine R_getM dJ2_size_1 fm_J2_48_16 h.1 h.2 (v := .int (nI n)) rfl ?_
  exact R_iret dJ2_size_4 rfl rfl ⟨rfl, rfl⟩
theorem ev_elem (d : Nat) {G : Wd} {l : Launch} {hp : Hp} {L ed n cap i : Nat} {mc : Int32} {f : Nat → Option Nat} (h : isLs hp L mc ed n) (hr : isRw hp ed cap f) (hi : i < cap) (hc : cap < 2 ^ 31) : Ev G l mJ2_elementData (d + 1) 0 0 [.ref L, .int (nI i)] hp (fun v hp1 => v = some (va_rf (f i)) ∧ hp1 = hp) := by
  refine Ev.of (by decide) (Nat.le_of_ble_eq_true rfl) ?_
  refine R_aload_n dJ2_elementData_0 rfl ?_
  refine R_getM dJ2_elementData_1 fm_J2_9_16 h.1 h.2 (v := .ref ed) rfl ?_
  refine R_iload_n dJ2_elementData_4 rfl ?_
  refine R_aald dJ2_elementData_5 (t := 4) rfl hr.1 hr.2 (vp_in_nI hi hc) ?_
  rw [nI_clamp (by omega)]
  exact R_aret dJ2_elementData_6 rfl (Or.inl ⟨_, rfl⟩) (va_rf_or _) ⟨rfl, rfl⟩
theorem ev_get (d : Nat) {G : Wd} {l : Launch} {hp : Hp} {L ed n cap i : Nat} {mc : Int32} {f : Nat → Option Nat} (h : isLs hp L mc ed n) (hr : isRw hp ed cap f) (hi : i < n) (hc : n ≤ cap) (hc2 : cap < 2 ^ 31) : Ev G l mJ2_get (d + 3) 0 0 [.ref L, .int (nI i)] hp (fun v hp1 => v = some (va_rf (f i)) ∧ hp1 = hp) := by
  refine Ev.of (by decide) (Nat.le_of_ble_eq_true rfl) ?_
  refine R_iload_n dJ2_get_0 rfl ?_
  refine R_aload_n dJ2_get_1 rfl ?_
  refine R_getM dJ2_get_2 fm_J2_48_16 h.1 h.2 (v := .int (nI n)) rfl ?_
  refine V_callS [.int (nI i), .int (nI n)] dJ2_get_5 cs_J2_118 rfl rfl (Nat.le_of_ble_eq_true rfl) (stj_ck5 d hi (by omega)) ?_
  refine R_pop dJ2_get_8 rfl ?_
  refine R_aload_n dJ2_get_9 rfl ?_
  refine R_iload_n dJ2_get_10 rfl ?_
  refine R_callV (As := [.int (nI i)]) dJ2_get_11 cv_J2_123 rfl rfl (Nat.le_of_ble_eq_true rfl) h.1 h.2 rfl (ev_elem (d + 1) h hr (by omega) hc2) (Nat.zero_le _) (Nat.zero_le _) (fun v hp1 hq => ?_)
  obtain ⟨rfl, rfl⟩ := hq
  exact R_aret dJ2_get_14 rfl (Or.inl ⟨_, rfl⟩) (va_rf_or _) ⟨rfl, rfl⟩
section Lists
variable {hh : List (Nat × Nat × Nat × Nat)} {G : Wd} {l : Launch} {M : MD} {d : Nat} {P : Option Value → Hp → Prop} {X : Nat → Hp → Prop} {pc : Nat} {ls st : List Value} {hp : Hp} {c k : Nat} {A : Nat → Nat} {σ : Sg} {ρ : Rho} {E : Hp → Prop}
theorem V_size {index w : Nat} (hB : Bs ρ E A hp) (hw2 : w < 2) (hd : decode M.2.1 pc = .ok (.invokevirtual index, 3)) (hc : CV M.1.cls index mJ2_size 0) (hw : (st.map Value.category).sum ≤ 8) (kk : RnH hh G l M (d + 2) P X (pc + 3) ls (.int (nI (ρ.1 w)) :: st) (ov rgM A σ hp) c k) : RnH hh G l M (d + 2) P X pc ls (.ref (ρ.1 (3 + 2 * w)) :: st) (ov rgM A σ hp) c k := by
  obtain ⟨⟨q1, q2, q3, q4⟩, -⟩ := hB.2.1.2.1 w hw2
  have hL : isLs (ov rgM A σ hp) (ρ.1 (3 + 2 * w)) (ρ.2.2.1 3 w 0) (ρ.1 (4 + 2 * w)) (ρ.1 w) := ⟨q2, by rw [ov_out q3]; exact q4⟩
  refine R_callV (As := []) hd hc rfl rfl hw hL.1 hL.2 rfl (ev_size d hL) (Nat.zero_le _) (Nat.zero_le _) (fun v hp1 hq => ?_)
  obtain ⟨rfl, rfl⟩ := hq
  exact kk
theorem V_sizeO {index o : Nat} {x : Int32} (hB : Bs ρ E A hp) (ho : o < rgM.2.2 ∧ rgM.1 o = (0, 16, 3) ∧ rgM.2.1 o = fun j => ([(0, 0), (2, 0), (0, 0)] : List (Nat × Nat)).getD j (0, 0)) (hd : decode M.2.1 pc = .ok (.invokevirtual index, 3)) (hc : CV M.1.cls index mJ2_size 0) (hw : (st.map Value.category).sum ≤ 8) (hx : σ.1 o 2 = x) (kk : RnH hh G l M (d + 2) P X (pc + 3) ls (.int x :: st) (ov rgM A σ hp) c k) : RnH hh G l M (d + 2) P X pc ls (.ref (A o) :: st) (ov rgM A σ hp) c k := by
  have e := ov_at (σ := σ) hB.1 ho.1
  unfold ceR at e
  rw [ho.2.1] at e
  have hev : Ev G l mJ2_size (d + 1) 0 0 [.ref (A o)] (ov rgM A σ hp) (fun v hp1 => v = some (.int x) ∧ hp1 = ov rgM A σ hp) := by
    refine Ev.of (by decide) (Nat.le_of_ble_eq_true rfl) ?_
    refine R_aload_n dJ2_size_0 rfl ?_
    refine R_getM dJ2_size_1 fm_J2_48_16 (hB.1.1 o ho.1).2 e (v := .int x) ?_ ?_
    · rw [fs_at (by decide)]
      unfold fvR
      rw [ho.2.2, ← hx]
      rfl
    · exact R_iret dJ2_size_4 rfl rfl ⟨rfl, rfl⟩
  refine R_callV (As := []) hd hc rfl rfl hw (hB.1.1 o ho.1).2 e rfl hev (Nat.zero_le _) (Nat.zero_le _) (fun v hp1 hq => ?_)
  obtain ⟨rfl, rfl⟩ := hq
  exact kk
theorem V_lget {index w : Nat} {i : Int32} (hB : Bs ρ E A hp) (hw2 : w < 2) (hi : vp_in i (ρ.1 w)) (hd : decode M.2.1 pc = .ok (.invokevirtual index, 3)) (hc : CV M.1.cls index mJ2_get 1) (hw : (st.map Value.category).sum ≤ 8) (kk : RnH hh G l M (d + 4) P X (pc + 3) ls (.ref (ρ.2.1 w i.toNatClampNeg) :: st) (ov rgM A σ hp) c k) : RnH hh G l M (d + 4) P X pc ls (.int i :: .ref (ρ.1 (3 + 2 * w)) :: st) (ov rgM A σ hp) c k := by
  obtain ⟨⟨q1, q2, q3, q4⟩, h6, hrow, hel⟩ := hB.2.1.2.1 w hw2
  obtain ⟨j, hj, rfl⟩ := vp_in_of hi (by omega)
  rw [nI_clamp (by omega)] at kk
  obtain ⟨⟨p1, p2, p3, p4⟩, hcap, hcap2⟩ := hrow (by omega)
  have hL : isLs (ov rgM A σ hp) (ρ.1 (3 + 2 * w)) (ρ.2.2.1 3 w 0) (ρ.1 (4 + 2 * w)) (ρ.1 w) := ⟨q2, by rw [ov_out q3]; exact q4⟩
  have hr : isRw (ov rgM A σ hp) (ρ.1 (4 + 2 * w)) (ρ.1 (7 + w)) (ρ.2.2.2.2.2 w) := ⟨p2, by rw [ov_out p3]; exact p4⟩
  refine R_callV (As := [.int (nI j)]) hd hc rfl rfl hw hL.1 hL.2 rfl (ev_get d hL hr hj hcap (by omega)) (Nat.zero_le _) (Nat.zero_le _) (fun v hp1 hq => ?_)
  obtain ⟨rfl, rfl⟩ := hq
  rw [hel j hj]
  exact kk
theorem V_ifill {off : Int} (tgt : Nat) (hd : decode M.2.1 pc = .ok (.ifnonnull off, 3)) (ht : (pc : Int) + off = (tgt : Int)) (kt : ∀ q, rIll ρ = some q → RnH hh G l M d P X tgt ls st hp c k) (kf : rIll ρ = none → RnH hh G l M d P X (pc + 3) ls st hp c k) : RnH hh G l M d P X pc ls (illV ρ :: st) hp c k := by
  unfold illV
  cases h : rIll ρ with
  | none => exact R_ifnnN hd (kf h)
  | some q => exact R_ifnn tgt hd ht (kt q h)
end Lists
