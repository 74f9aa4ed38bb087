/-! the twin's rules with their results named, for the printed segments -/
set_option maxRecDepth 100000
def isB (x : Int32) : Prop := narrow .boolean (.int x) = .int x
theorem isB_fit {x : Int32} (h : isB x) : fits .boolean (.int x) = true := by
  unfold isB at h
  rw [← h]
  exact fits_narrow_boolean x
theorem isB_0 : isB 0 := rfl
theorem isB_1 : isB 1 := rfl
theorem isB_if {c : Prop} [Decidable c] {x y : Int32} (hx : isB x) (hy : isB y) : isB (if c then x else y) := by
  split
  · exact hx
  · exact hy
section Tw2
variable {hh : List (Nat × Nat × Nat × Nat)} {G : Wd} {l : Launch} {M : MD} {d : Nat} {P : Option Value → Hp → Prop} {X : Nat → Hp → Prop} {pc : Nat} {ls st : List Value} {hp : Hp} {c k : Nat} {T : Nat} {σ : S8}
theorem T8_get {index fk : Nat} {x : Int32} (hT : T + NA ≤ hp.2) (hd : decode M.2.1 pc = .ok (.getfield index, 3)) (hf : Fl M.1.cls index 0 fk) (hk : fk < 79 ∧ k8 fk = 0) (hx : σ.1 fk = x) (kk : RnH hh G l M d P X (pc + 3) ls (.int x :: st) (tw T σ hp) c k) : RnH hh G l M d P X pc ls (.ref T :: st) (tw T σ hp) c k := by
  subst hx; exact T8b_get hT hd hf hk kk
theorem T8_getw {index : Nat} {x : Int64} (hT : T + NA ≤ hp.2) (hd : decode M.2.1 pc = .ok (.getfield index, 3)) (hf : Fl M.1.cls index 0 9) (hx : σ.2.2.1 = x) (kk : RnH hh G l M d P X (pc + 3) ls (.long x :: st) (tw T σ hp) c k) : RnH hh G l M d P X pc ls (.ref T :: st) (tw T σ hp) c k := by
  subst hx; exact T8b_getw hT hd hf kk
theorem T8_iald {j : Nat} {i x : Int32} (hT : T + NA ≤ hp.2) (hd : decode M.2.1 pc = .ok (.iaload, 1)) (hk : j < 79 ∧ k8 j = 1) (hin : vp_in i (n8 j)) (hx : σ.2.1 j i.toNatClampNeg = x) (kk : RnH hh G l M d P X (pc + 1) ls (.int x :: st) (tw T σ hp) c k) : RnH hh G l M d P X pc ls (.int i :: .ref (a8 T j) :: st) (tw T σ hp) c k := by
  subst hx; exact T8b_iald hT hd hk hin kk
theorem T8_zald {j : Nat} {i x : Int32} (hT : T + NA ≤ hp.2) (hd : decode M.2.1 pc = .ok (.baload, 1)) (hk : j < 79 ∧ k8 j = 2) (hin : vp_in i (n8 j)) (hx : σ.2.1 j i.toNatClampNeg = x) (kk : RnH hh G l M d P X (pc + 1) ls (.int x :: st) (tw T σ hp) c k) : RnH hh G l M d P X pc ls (.int i :: .ref (a8 T j) :: st) (tw T σ hp) c k := by
  subst hx; exact T8b_zald hT hd hk hin kk
theorem T8_lald {i : Int32} {x : Int64} (hT : T + NA ≤ hp.2) (hd : decode M.2.1 pc = .ok (.laload, 1)) (hin : vp_in i 12) (hx : σ.2.2.2 i.toNatClampNeg = x) (kk : RnH hh G l M d P X (pc + 1) ls (.long x :: st) (tw T σ hp) c k) : RnH hh G l M d P X pc ls (.int i :: .ref (a8 T 10) :: st) (tw T σ hp) c k := by
  subst hx; exact T8b_lald hT hd hin kk
theorem T8_put {index fk : Nat} {x : Int32} {ty : FieldType} {σ9 : S8} (hK : K0 ≤ T) (hT : T + NA ≤ hp.2) (hd : decode M.2.1 pc = .ok (.putfield index, 3)) (hf : Fl M.1.cls index 0 fk) (ht : Ft 0 fk ty false) (hn : narrow ty (.int x) = .int x) (hfit : fits ty (.int x) = true) (hk : fk < 79 ∧ k8 fk = 0) (h9 : (upd σ.1 fk x, σ.2) = σ9) (kk : RnH hh G l M d P X (pc + 3) ls st (tw T σ9 hp) c k) : RnH hh G l M d P X pc ls (.int x :: .ref T :: st) (tw T σ hp) c k := by
  subst h9; exact T8b_put hK hT hd hf ht hn hfit hk kk
theorem T8_putw {index : Nat} {x : Int64} {σ9 : S8} (hK : K0 ≤ T) (hT : T + NA ≤ hp.2) (hd : decode M.2.1 pc = .ok (.putfield index, 3)) (hf : Fl M.1.cls index 0 9) (ht : Ft 0 9 .long false) (h9 : (σ.1, σ.2.1, x, σ.2.2.2) = σ9) (kk : RnH hh G l M d P X (pc + 3) ls st (tw T σ9 hp) c k) : RnH hh G l M d P X pc ls (.long x :: .ref T :: st) (tw T σ hp) c k := by
  subst h9; exact T8b_putw hK hT hd hf ht kk
theorem T8_iast {j : Nat} {i x : Int32} {σ9 : S8} (hK : K0 ≤ T) (hT : T + NA ≤ hp.2) (hd : decode M.2.1 pc = .ok (.iastore, 1)) (hk : j < 79 ∧ k8 j = 1) (hin : vp_in i (n8 j)) (h9 : (σ.1, upA σ.2.1 j (upd (σ.2.1 j) i.toNatClampNeg x), σ.2.2) = σ9) (kk : RnH hh G l M d P X (pc + 1) ls st (tw T σ9 hp) c k) : RnH hh G l M d P X pc ls (.int x :: .int i :: .ref (a8 T j) :: st) (tw T σ hp) c k := by
  subst h9; exact T8b_iast hK hT hd hk hin kk
theorem T8_zast {j : Nat} {i x : Int32} {σ9 : S8} (hK : K0 ≤ T) (hT : T + NA ≤ hp.2) (hd : decode M.2.1 pc = .ok (.bastore, 1)) (hk : j < 79 ∧ k8 j = 2) (hx : narrow .boolean (.int x) = .int x) (hin : vp_in i (n8 j)) (h9 : (σ.1, upA σ.2.1 j (upd (σ.2.1 j) i.toNatClampNeg x), σ.2.2) = σ9) (kk : RnH hh G l M d P X (pc + 1) ls st (tw T σ9 hp) c k) : RnH hh G l M d P X pc ls (.int x :: .int i :: .ref (a8 T j) :: st) (tw T σ hp) c k := by
  subst h9; exact T8b_zast hK hT hd hk hx hin kk
theorem T8_last {i : Int32} {x : Int64} {σ9 : S8} (hK : K0 ≤ T) (hT : T + NA ≤ hp.2) (hd : decode M.2.1 pc = .ok (.lastore, 1)) (hin : vp_in i 12) (h9 : (σ.1, σ.2.1, σ.2.2.1, vp_updL σ.2.2.2 i.toNatClampNeg x) = σ9) (kk : RnH hh G l M d P X (pc + 1) ls st (tw T σ9 hp) c k) : RnH hh G l M d P X pc ls (.long x :: .int i :: .ref (a8 T 10) :: st) (tw T σ hp) c k := by
  subst h9; exact T8b_last hK hT hd hin kk
theorem S_istore_n {q : Fin 4} {x : Int32} {ls1 : List Value} (hd : decode M.2.1 pc = .ok (.istore_n q, 1)) (hn : (q : Nat) < M.2.2.1) (ho : okS ls (q : Nat) = true) (h1 : ls.set (q : Nat) (.int x) = ls1) (kk : RnH hh G l M d P X (pc + 1) ls1 st hp c k) : RnH hh G l M d P X pc ls (.int x :: st) hp c k := by
  subst h1; exact R_istore_n hd hn ho kk
theorem S_istore {i : Nat} {x : Int32} {ls1 : List Value} (hd : decode M.2.1 pc = .ok (.istore i, 2)) (hn : i < M.2.2.1) (ho : okS ls i = true) (h1 : ls.set i (.int x) = ls1) (kk : RnH hh G l M d P X (pc + 2) ls1 st hp c k) : RnH hh G l M d P X pc ls (.int x :: st) hp c k := by
  subst h1; exact R_istore hd hn ho kk
theorem S_lstore_n {q : Fin 4} {x : Int64} {ls1 : List Value} (hd : decode M.2.1 pc = .ok (.lstore_n q, 1)) (hn : (q : Nat) + 1 < M.2.2.1) (ho : okS ls (q : Nat) = true) (h1 : (ls.set (q : Nat) (.long x)).set ((q : Nat) + 1) U_ = ls1) (kk : RnH hh G l M d P X (pc + 1) ls1 st hp c k) : RnH hh G l M d P X pc ls (.long x :: st) hp c k := by
  subst h1; exact R_lstore_n hd hn ho kk
theorem S_iinc {i : Nat} {n : Int} {x v : Int32} {ls1 : List Value} (hd : decode M.2.1 pc = .ok (.iinc i n, 3)) (hl : ls[i]? = some (.int x)) (hv : x + Int32.ofInt n = v) (hn : i < M.2.2.1) (ho : okS ls i = true) (h1 : ls.set i (.int v) = ls1) (kk : RnH hh G l M d P X (pc + 3) ls1 st hp c k) : RnH hh G l M d P X pc ls st hp c k := by
  subst h1; exact R_iinc hd hl hv hn ho kk
end Tw2
theorem upA_upA (f : Nat → Nat → Int32) (j : Nat) (g1 g2 : Nat → Int32) : upA (upA f j g1) j g2 = upA f j g2 := by
  funext q
  unfold upA
  by_cases h : q = j
  · rw [if_pos h, if_pos h]
  · rw [if_neg h, if_neg h, if_neg h]
theorem up9 (F : Nat → Int32) (f : Nat → Nat → Int32) (j : Nat) (g1 g2 : Nat → Int32) (w : Int64) (n : Nat → Int64) : ((F, upA (upA f j g1) j g2, w, n) : S8) = (F, upA f j g2, w, n) := by rw [upA_upA]
