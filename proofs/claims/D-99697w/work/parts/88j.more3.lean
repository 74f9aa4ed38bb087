/-! further rules: rows that are made, rows of references written and copied, class objects, calls through an interface -/
set_option maxRecDepth 100000
section More3
variable {hh : List (Nat × Nat × Nat × Nat)} {G : Wd} {l : Launch} {M : MD} {d : Nat} {P : Option Value → Hp → Prop} {X : Nat → Hp → Prop} {pc : Nat} {ls st : List Value} {hp : Hp} {c k : Nat} {H : Heap}
/-- rows of numbers: the tag by the type -/
def tyP (t : Nat) : Option ArrayType := match t with
  | 0 => some .int
  | 1 => some .boolean
  | 2 => some .byte
  | _ => none
theorem R_newp {t N : Nat} {at9 : ArrayType} {n : Int32} (hd : decode M.2.1 pc = .ok (.newarray at9, 2)) (ht : tyP t = some at9) (harr : Cond.arrayClass (newarray.typeOf at9) ∈ lw_all) (hn : ¬ n < 0) (hN : n.toNatClampNeg = N) (hb : N ≤ 10000) (hcc : 1 ≤ c) (hkk : N ≤ k)
    (kk : RnH hh G l M d P X (pc + 2) ls (.ref hp.2 :: st) (hnew hp (.inl (t, N, .inl (fun _ => 0)))) (c - 1) (k - N)) : RnH hh G l M d P X pc ls (.int n :: st) hp c k := by
  intro p e s m args below meth cd mc ms H locs cells slots la C g S L h1 h2
  have hts := C.2.2.2.2.2.2.1
  have W0 := C.2.2.2.2.2.2.2.1.1
  have hK0 := C.2.2.2.2.2.2.2.1.2.1
  have hby : N * componentBytes (newarray.typeOf at9) ≤ 536870912 := by
    have : componentBytes (newarray.typeOf at9) ≤ 8 := by cases at9 <;> decide
    have := Nat.mul_le_mul hb this
    omega
  refine va_newaK C.1 C.2.1 (hts _ harr) rfl hd rfl hn hN hby (by show cells + 1 ≤ mc; omega) (by show slots + N ≤ ms; omega) g.2.1 fun H1 cA e1 z1 o1 hAr hNm => ?_
  have hcA : cA = G.2.2.1 t ∧ H1[G.1 hp.2]? = some (arrV cA N (fun _ => .int 0)) := by
    match t, ht with
    | 0, ht => cases ht; exact ⟨Option.some.inj (hNm.symm.trans (hK0.2 0 (G.2.2.1 0, .int) rfl).2), e1⟩
    | 1, ht => cases ht; exact ⟨Option.some.inj (hNm.symm.trans (hK0.2 1 (G.2.2.1 1, .boolean) rfl).2), e1⟩
    | 2, ht => cases ht; exact ⟨Option.some.inj (hNm.symm.trans (hK0.2 2 (G.2.2.1 2, .byte) rfl).2), e1⟩
  obtain ⟨rfl, e2⟩ := hcA
  have hv : va_at G.2.1 clA (G.1 hp.2, ce G (.inl (t, N, .inl (fun _ => 0)))) H1 := e2
  exact kk p e s m args below meth cd mc ms H1 locs (cells + 1) (slots + N) la C (g.new W0 hv z1 o1) (S_new S g.2.1 z1 o1) L (by omega) (by omega)
/-- rows of references -/
theorem R_newr {t N index : Nat} {E : String} {n : Int32} (hd : decode M.2.1 pc = .ok (.anewarray index, 3)) (ht : tyR t = some E ∧ t < 6) (hcl : Cond.classLink M.1.cls index E ∈ lw_all) (hn : ¬ n < 0) (hN : n.toNatClampNeg = N) (hb : N ≤ 10000) (hcc : 1 ≤ c) (hkk : N ≤ k)
    (kk : RnH hh G l M d P X (pc + 3) ls (.ref hp.2 :: st) (hnew hp (.inl (t, N, .inr (.inr (.inr (.inr (fun _ => none))))))) (c - 1) (k - N)) : RnH hh G l M d P X pc ls (.int n :: st) hp c k := by
  intro p e s m args below meth cd mc ms H locs cells slots la C g S L h1 h2
  have hts := C.2.2.2.2.2.2.1
  have W0 := C.2.2.2.2.2.2.2.1.1
  have hK0 := C.2.2.2.2.2.2.2.1.2.1
  have hX0 := C.2.2.2.2.2.2.2.1.2.2.1
  have hAO : va_AO E s := by
    match t, ht with
    | 4, ht => cases ht.1; exact hX0.2.2.1
    | 5, ht => cases ht.1; exact hX0.2.2.2.1
  subst hN
  refine W.anew C.1 C.2.1 C.2.2.2.2.2.1 (hts _ hcl) (va_AO.use hAO) rfl hd rfl hn (by omega) (by show cells + 1 ≤ mc; omega) (by show slots + n.toNatClampNeg ≤ ms; omega) fun cA kA comp f1 f2 f3 f4 => ?_
  generalize hH1 : H.push ({ cls := cA, slots := Array.replicate n.toNatClampNeg .null, vm := .none } : Cell) = H1
  have z1 : H1.size = H.size + 1 := by rw [← hH1, Array.size_push]
  have e1 : H1[H.size]? = some (arrV cA n.toNatClampNeg (fun _ => .null)) := by rw [← hH1, Array.getElem?_push_size, ← arrV_new]
  have o1 : ∀ q : Nat, q < H.size → H1[q]? = H[q]? := fun q hq => by rw [← hH1, Array.getElem?_push, if_neg (Nat.ne_of_lt hq)]
  obtain ⟨-, -, -, -, -, hNm⟩ := (hK0.2 t _ (tyR_at ht.1)).2
  have hcA : cA = G.2.2.1 t := Option.some.inj (f1.symm.trans hNm)
  subst hcA
  rw [g.2.1] at z1 e1 o1
  have hv : va_at G.2.1 clA (G.1 hp.2, ce G (.inl (t, n.toNatClampNeg, .inr (.inr (.inr (.inr (fun _ => none))))))) H1 := e1
  have h3 := kk p e s m args below meth cd mc ms H1 locs (cells + 1) (slots + n.toNatClampNeg) la C (g.new W0 hv z1 o1) (S_new S g.2.1 z1 o1) L (by omega) (by omega)
  rw [g.2.1]
  exact h3
/-- an element is written -/
theorem R_aast {a n v ci t : Nat} {fs : List Value} {E : String} {q : vw_C} {f : Nat → Option Nat} {i : Int32} (hd : decode M.2.1 pc = .ok (.aastore, 1)) (ht : tyR t = some E) (ha : a < hp.2) (hK : K0 ≤ a) (he : hp.1 a = .inl (t, n, .inr (.inr (.inr (.inr f))))) (hv : v < hp.2) (hev : hp.1 v = .inr (ci, fs)) (hc : clA[ci]? = some q) (hca : E = q.1 ∨ Cond.castable q.1 E ∈ lw_tbl) (hin : vp_in i n)
    (kk : RnH hh G l M d P X (pc + 1) ls st (hset hp a (.inl (t, n, .inr (.inr (.inr (.inr (va_up f i.toNatClampNeg (some v)))))))) c k) : RnH hh G l M d P X pc ls (.ref v :: .int i :: .ref a :: st) hp c k := by
  intro p e s m args below meth cd mc ms H locs cells slots la C g S L h1 h2
  have W0 := C.2.2.2.2.2.2.2.1.1
  have hK0 := C.2.2.2.2.2.2.2.1.2.1
  have hX0 := C.2.2.2.2.2.2.2.1.2.2.1
  have hlt : i.toNatClampNeg < n := Nat.not_le.mp fun q => hin (Or.inr q)
  have h0 : ¬ i < 0 := fun q => hin (Or.inl q)
  have hc9 : H[G.1 a]? = some (vp_cell (G.2.2.1 t) (n, .inr (.inr (.inr (.inr (fun j => (f j).map G.1)))))) := (g.one ha he ne_a) 0 _ rfl
  obtain ⟨r', hr', cellV, g1, g2, g3, -⟩ := (g.one hv hev (ne_c hc)) 0 _ rfl
  have hcls := (hK0.1 ci q hc).2
  obtain ⟨kA, comp, k1, k2, k3, -⟩ := (hK0.2 t _ (tyR_at ht)).2
  obtain ⟨kE, hkE, -⟩ := Vm.findClass_spec k3
  obtain ⟨kC, hkC, -⟩ := hcls.2
  have hasg : s.vm.assignable (G.2.1.1 ci) comp = true := by
    rcases hca with z | z
    · have hcomp : comp = G.2.1.1 ci := by rw [z] at k3; exact Option.some.inj (k3.symm.trans hcls.1)
      rw [hcomp]
      exact va_assign hcls
    · obtain ⟨c0, t1, f1, f2, f3⟩ := Cond.castable_spec (va_Nw.use (A := args) rfl (hX0.1 _ z rfl))
      cases hcls.1.symm.trans f1
      cases k3.symm.trans f2
      exact f3
  refine W.aast C.1 C.2.1 hc9 (fun q h => by cases h) (fun h => by cases h) k1 k2 rfl hkE ⟨h0, by show _ < (arrV _ _ _).slots.size; rw [arrV_size]; exact hlt⟩ g1 (fun q h => by rw [g3] at h; cases h) (by rw [g2]; exact hkC) (by rw [g2]; exact hasg) rfl rfl hd fun H1 e1 z oq => ?_
  refine kk p e s m args below meth cd mc ms H1 _ cells slots la C (g.set W0 hK ?_ z oq) (S.put z oq (aA_of W0 hK)) L h1 h2
  show H1[G.1 a]? = some (vp_cell (G.2.2.1 t) (n, .inr (.inr (.inr (.inr (fun j => (va_up f i.toNatClampNeg (some v) j).map G.1))))))
  rw [e1, vp_cell_q, vp_cell_q, arrV_store]
  congr 2
  funext q
  by_cases hq : q = i.toNatClampNeg
  · subst hq
    simp [updV, va_up, va_rf]
  · simp [updV, va_up, hq]
theorem R_aastN {a n t : Nat} {E : String} {f : Nat → Option Nat} {i : Int32} (hd : decode M.2.1 pc = .ok (.aastore, 1)) (ht : tyR t = some E) (ha : a < hp.2) (hK : K0 ≤ a) (he : hp.1 a = .inl (t, n, .inr (.inr (.inr (.inr f))))) (hin : vp_in i n)
    (kk : RnH hh G l M d P X (pc + 1) ls st (hset hp a (.inl (t, n, .inr (.inr (.inr (.inr (va_up f i.toNatClampNeg none))))))) c k) : RnH hh G l M d P X pc ls (.null :: .int i :: .ref a :: st) hp c k := by
  intro p e s m args below meth cd mc ms H locs cells slots la C g S L h1 h2
  have W0 := C.2.2.2.2.2.2.2.1.1
  have hK0 := C.2.2.2.2.2.2.2.1.2.1
  have hc9 : H[G.1 a]? = some (vp_cell (G.2.2.1 t) (n, .inr (.inr (.inr (.inr (fun j => (f j).map G.1)))))) := (g.one ha he ne_a) 0 _ rfl
  refine va_WaastN (C := E) C.1 C.2.1 hc9 ((hK0.2 t _ (tyR_at ht)).1 n (fun j => va_rf ((f j).map G.1))) (fun h => by cases h) (by show ¬ (i < 0 ∨ (arrV _ _ _).slots.size ≤ _); rw [arrV_size]; exact hin) rfl rfl hd fun H1 e1 z oq => ?_
  refine kk p e s m args below meth cd mc ms H1 _ cells slots la C (g.set W0 hK ?_ z oq) (S.put z oq (aA_of W0 hK)) L h1 h2
  show H1[G.1 a]? = some (vp_cell (G.2.2.1 t) (n, .inr (.inr (.inr (.inr (fun j => (va_up f i.toNatClampNeg none j).map G.1))))))
  rw [e1, vp_cell_q, vp_cell_q, arrV_store]
  congr 2
  funext q
  by_cases hq : q = i.toNatClampNeg
  · subst hq
    simp [updV, va_up, va_rf]
  · simp [updV, va_up, hq]
/-- a row of Objects is copied (it may be the same row): all that is copied is of one class -/
theorem R_copyr {index a0 a n0 n1 ci : Nat} {q : vw_C} {f g0 : Nat → Option Nat} {sp dp n : Int32} (hd : decode M.2.1 pc = .ok (.invokestatic index, 3)) (hq : Cond.methodLink M.1.cls index arraycopyName ∈ lw_all) (ha0 : a0 < hp.2) (he0 : hp.1 a0 = .inl (4, n0, .inr (.inr (.inr (.inr f))))) (ha : a < hp.2) (hK : K0 ≤ a) (he : hp.1 a = .inl (4, n1, .inr (.inr (.inr (.inr g0))))) (hci : clA[ci]? = some q) (hca : Cond.castable q.1 "java/lang/Object" ∈ lw_tbl)
    (hel : ∀ i, i < n.toNatClampNeg → ∀ y, f (sp.toNatClampNeg + i) = some y → y < hp.2 ∧ ∃ fs, hp.1 y = .inr (ci, fs)) (b1 : ¬ sp < 0) (b2 : ¬ dp < 0) (b3 : ¬ n < 0) (b4 : sp.toNatClampNeg + n.toNatClampNeg ≤ n0) (b5 : dp.toNatClampNeg + n.toNatClampNeg ≤ n1) (hw : (st.map Value.category).sum ≤ 8)
    (kk : RnH hh G l M (d + 1) P X (pc + 3) ls st (hset hp a (.inl (4, n1, .inr (.inr (.inr (.inr (va_cpy f g0 sp.toNatClampNeg dp.toNatClampNeg n.toNatClampNeg))))))) c k) : RnH hh G l M (d + 1) P X pc ls (.int n :: .int dp :: .ref a :: .int sp :: .ref a0 :: st) hp c k := by
  intro p e s m args below meth cd mc ms H locs cells slots la C g S L h1 h2
  have hts := C.2.2.2.2.2.2.1
  have W0 := C.2.2.2.2.2.2.2.1.1
  have hK0 := C.2.2.2.2.2.2.2.1.2.1
  have hX0 := C.2.2.2.2.2.2.2.1.2.2.1
  have nn : ∀ z : Int32, ¬ z < 0 → z.toInt = (z.toNatClampNeg : Int) := by
    intro z hz
    have hz0 : (0 : Int) ≤ z.toInt := by
      have := Int32.not_lt.mp hz
      simpa using Int32.le_iff_toInt_le.mp this
    show z.toInt = ((z.toInt.toNat : Nat) : Int)
    omega
  have hcls := (hK0.1 ci q hci).2
  obtain ⟨kA9, comp9, r1, r2, r3, -⟩ := (hK0.2 4 _ (tyR_at (t := 4) rfl)).2
  have hasg : s.vm.assignable (G.2.1.1 ci) comp9 = true := by
    obtain ⟨c0, t1, f1, f2, f3⟩ := Cond.castable_spec (va_Nw.use (A := args) rfl (hX0.1 _ hca rfl))
    cases hcls.1.symm.trans f1
    cases r3.symm.trans f2
    exact f3
  intro T hT Y
  generalize hF : (fun j => (f j).map G.1) = F
  generalize hF0 : (fun j => (g0 j).map G.1) = F0g
  have hc0 : H[G.1 a0]? = some (vp_cell (G.2.2.1 4) (n0, .inr (.inr (.inr (.inr F))))) := by rw [← hF]; exact (g.one ha0 he0 ne_a) 0 _ rfl
  have hc1 : H[G.1 a]? = some (vp_cell (G.2.2.1 4) (n1, .inr (.inr (.inr (.inr F0g))))) := by rw [← hF0]; exact (g.one ha he ne_a) 0 _ rfl
  obtain ⟨-, k0, hk0, cm0, hkk0⟩ := (hK0.2 4 _ (tyR_at (t := 4) rfl)).1 n0 (fun j => va_rf (F j))
  obtain ⟨-, k1, hk1, cm1, hkk1⟩ := (hK0.2 4 _ (tyR_at (t := 4) rfl)).1 n1 (fun j => va_rf (F0g j))
  have hcat := cat_map (G := G) (m := m) (pc := pc) (la := la) (st0 := []) st hw
  obtain ⟨vm', X', step⟩ := Y.arraycopy C.1 C.2.2.2.2.2.1 (hts _ hq) (hts _ q865) (hts _ q864) (hts _ q140) (src := G.1 a0) (dst := G.1 a) (cs := vp_cell (G.2.2.1 4) (n0, .inr (.inr (.inr (.inr F))))) (cd := vp_cell (G.2.2.1 4) (n1, .inr (.inr (.inr (.inr F0g))))) (srcPos := sp) (destPos := dp) (n := n) (by rw [hT]; exact hc0) (by rw [hT]; exact hc1)
    (fun _ h => by cases h) (fun _ h => by cases h) (fun h => by cases h) (fun h => by cases h) hk0 hk1 hkk0 hkk1 rfl b1 b2 b3
    (by rw [nn sp b1, nn n b3]; show ¬ _ > ((arrV _ n0 (fun j => va_rf (F j))).slots.size : Int); rw [arrV_size]; omega)
    (by rw [nn dp b2, nn n b3]; show ¬ _ > ((arrV _ n1 (fun j => va_rf (F0g j))).slots.size : Int); rw [arrV_size]; omega)
    (fun vm₁ hal i hi => by
      have e : (vp_cell (G.2.2.1 4) (n0, .inr (.inr (.inr (.inr F))))).slots.getD (sp.toNatClampNeg + i) .null = va_rf (F (sp.toNatClampNeg + i)) := by
        show (arrV _ n0 (fun j => va_rf (F j))).slots.getD _ _ = _
        rw [Array.getD_eq_getD_getElem?, arrV_read _ _ (by omega)]
        rfl
      rw [e]
      cases hy : F (sp.toNatClampNeg + i) with
      | none => exact ⟨rfl, trivial⟩
      | some y =>
        rw [← hF] at hy
        cases hy9 : f (sp.toNatClampNeg + i) with
        | none => dsimp only at hy; rw [hy9] at hy; cases hy
        | some y0 =>
          have hy' : G.1 y0 = y := by dsimp only at hy; rw [hy9] at hy; exact Option.some.inj hy
          subst hy'
          obtain ⟨w1, fs, w2⟩ := hel i hi y0 hy9
          obtain ⟨r', hr', cellV, g1, g2, g3, -⟩ := (g.one w1 w2 (ne_c hci)) 0 _ rfl
          cases hk1.symm.trans r1
          cases hkk1.symm.trans r2
          obtain ⟨kC, hkC, -⟩ := hcls.2
          obtain ⟨kE, hkE, -⟩ := Vm.findClass_spec r3
          obtain ⟨kC', hkC', -⟩ := hal.2.2 _ _ hkC
          obtain ⟨kE', hkE', -⟩ := hal.2.2 _ _ hkE
          refine ⟨rfl, cellV, (show T.heap[G.1 y0]? = some cellV by rw [hT]; exact g1), (fun q h => by rw [g3] at h; cases h), ⟨kC', by rw [g2]; exact hkC'⟩, ?_, ?_⟩
          · exact ⟨kE', hkE'⟩
          · show vm₁.assignable _ _ = true
            rw [hal.assignable, g2]
            exact hasg)
    (g := F0 m pc la (.int n :: .int dp :: .ref (G.1 a) :: .int sp :: .ref (G.1 a0) :: st.map (cv G))) rfl (by rw [C.2.2.1]; exact L.1) (rest := st.map (cv G)) rfl (by rw [C.2.1]; exact hd) (by show 1 ≤ d + 1; omega) (by
      have hz : nativeFrameWords "java/lang/System" "arraycopy" 5 ≤ 60 := by decide
      have hz2 : (F0 m pc la ([] : List Value)).monitorRoom = 0 := rfl
      show 2 * 0 + ((st.map (cv G)).map fun v => v.category).sum + (nativeFrameWords "java/lang/System" "arraycopy" 5 + 11) ≤ 100 * (d + 1)
      rw [hz2] at hcat
      omega)
  have e1 : copied (vp_cell (G.2.2.1 4) (n0, .inr (.inr (.inr (.inr F))))) (vp_cell (G.2.2.1 4) (n1, .inr (.inr (.inr (.inr F0g))))) sp dp n = vp_cell (G.2.2.1 4) (n1, .inr (.inr (.inr (.inr (va_cpy F F0g sp.toNatClampNeg dp.toNatClampNeg n.toNatClampNeg))))) := by
    rw [vp_cell_q, vp_cell_q, vp_cell_q]
    exact va_copied (fun z => va_rf z) _ _ F F0g b4
  have e2 : va_cpy F F0g sp.toNatClampNeg dp.toNatClampNeg n.toNatClampNeg = fun j => (va_cpy f g0 sp.toNatClampNeg dp.toNatClampNeg n.toNatClampNeg j).map G.1 := by
    funext j
    rw [← hF, ← hF0]
    by_cases z : dp.toNatClampNeg ≤ j ∧ j < dp.toNatClampNeg + n.toNatClampNeg
    · rw [pk_cpy_in z.1 z.2, pk_cpy_in z.1 z.2]
    · rw [pk_cpy_out (by omega), pk_cpy_out (by omega)]
  rw [e1, e2] at X' step
  generalize hcell : vp_cell (G.2.2.1 4) (n1, .inr (.inr (.inr (.inr (fun j => (va_cpy f g0 sp.toNatClampNeg dp.toNatClampNeg n.toNatClampNeg j).map G.1))))) = cl9 at X' step
  have hl : G.1 a < H.size := (Array.getElem?_eq_some_iff.mp hc1).1
  have hheap : ((T.setVm vm').setCell (G.1 a) cl9).heap = H.setIfInBounds (G.1 a) cl9 := by rw [← hT]; rfl
  have oq : ∀ q : Nat, q ≠ G.1 a → (H.setIfInBounds (G.1 a) cl9)[q]? = H[q]? := fun q hq => by simp [Array.getElem?_setIfInBounds, Ne.symm hq]
  have hset' : (H.setIfInBounds (G.1 a) cl9)[G.1 a]? = some cl9 := by simp [Array.getElem?_setIfInBounds, hl]
  obtain ⟨t, a1, b1⟩ := kk p e s m args below meth cd mc ms _ _ cells slots la C (g.set W0 hK (e := .inl (4, n1, .inr (.inr (.inr (.inr (va_cpy f g0 sp.toNatClampNeg dp.toNatClampNeg n.toNatClampNeg)))))) (by rw [← hcell] at hset'; exact hset') (by simp) (by rw [hcell]; exact oq)) (⟨by simp; exact S.1, fun q g1 g2 => by
      rw [hcell, oq q (fun e => g2 (by rw [e]; exact aA_of W0 hK))]
      exact S.2.1 q g1 g2, fun q hq => by
      rcases List.mem_append.mp hq with h | h
      · exact S.2.2 q h
      · obtain ⟨z, -, hz⟩ := List.mem_map.mp h
        rw [← hz]
        exact aA_of W0 hK⟩) L h1 h2 _ (by rw [hcell]; exact hheap) X'
  exact ⟨t, step t a1, b1⟩
/-- the class object of Object[] -/
theorem R_ldcM {index : Nat} (hd : decode M.2.1 pc = .ok (.ldc index, 2)) (hcl : Cond.classLink M.1.cls index "[Ljava/lang/Object;" ∈ lw_all) (kk : RnH hh G l M d P X (pc + 2) ls (.ref 46 :: st) hp c k) : RnH hh G l M d P X pc ls st hp c k := by
  intro p e s m args below meth cd mc ms H locs cells slots la C g S L h1 h2
  exact va_ldcM C.1 C.2.1 C.2.2.2.2.2.1 (C.2.2.2.2.2.2.1 _ hcl) C.2.2.2.2.2.2.2.1.2.2.1.2.2.2.2.2.2.2.2.2.2.2.1 hd (kk p e s m args below meth cd mc ms H locs cells slots la C g S L h1 h2)
theorem R_getC {index a : Nat} {x : vp_A} (hd : decode M.2.1 pc = .ok (.invokevirtual index, 3)) (hq : Cond.methodLink M.1.cls index ⟨"java/lang/Object", "getClass", "()Ljava/lang/Class;"⟩ ∈ lw_all) (ha : a < hp.2) (he : hp.1 a = .inl (4, x)) (hw : (st.map Value.category).sum ≤ 8) (kk : RnH hh G l M (d + 1) P X (pc + 3) ls (.ref 46 :: st) hp c k) : RnH hh G l M (d + 1) P X pc ls (.ref a :: st) hp c k := by
  intro p e s m args below meth cd mc ms H locs cells slots la C g S L h1 h2
  have hts := C.2.2.2.2.2.2.1
  have hK0 := C.2.2.2.2.2.2.2.1.2.1
  have hX0 := C.2.2.2.2.2.2.2.1.2.2.1
  have hcat := cat_map (G := G) (m := m) (pc := pc) (la := la) (st0 := []) st hw
  have hz2 : (F0 m pc la ([] : List Value)).monitorRoom = 0 := rfl
  rw [hz2] at hcat
  have hc9 : H[G.1 a]? = some (vp_cell (G.2.2.1 4) (ca G x)) := (g.one ha he ne_a) 0 _ rfl
  have hv9 : (vp_cell (G.2.2.1 4) (ca G x)).vm.isStatics = false ∧ (vp_cell (G.2.2.1 4) (ca G x)).cls = G.2.2.1 4 := by
    obtain ⟨n, f | f | f | f | f⟩ := x <;> exact ⟨rfl, rfl⟩
  exact va_getC C.1 C.2.1 (C.2.2.1.trans L.1.symm) C.2.2.2.2.2.1 (hts _ hq) (va_Nw.use rfl (hX0.1 _ q2189 rfl)) (hts _ q2188) (hts _ q833) (hts _ q853) hX0.2.2.2.2.2.2.2.2.2.2.2.1 ⟨_, hc9, hv9.1, by rw [hv9.2]; exact va_nmO (hK0.2 4 _ (tyR_at (t := 4) rfl)).2 rfl⟩ (by show 1 ≤ d + 1; omega) (by show _ + 14 ≤ 100 * (d + 1); omega) hd (kk p e s m args below meth cd mc ms H locs cells slots la C g S L h1 h2)
end More3
