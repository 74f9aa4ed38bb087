/-! the formula's worth -/
set_option maxRecDepth 100000
def runL (q : Nat → Int32) (L : List (Int32 × Int32)) (stk : List Int32) : List Int32 := L.foldl (fun s p => rpn1 q p.1 p.2 s) stk
theorem runL_app (q : Nat → Int32) (L1 L2 : List (Int32 × Int32)) (stk : List Int32) : runL q (L1 ++ L2) stk = runL q L2 (runL q L1 stk) := by
  unfold runL
  rw [List.foldl_append]
def yPof : MethodName := ⟨"TailorRegiment$Part", "of", "([I)I"⟩
def ofMD (ci : Nat) : MD := match ci with
  | 11 => mX14_of
  | 12 => mX15_of
  | 13 => mX16_of
  | _ => mX17_of
def CUof (own : String) (index : Nat) : Prop := CU own index RX14 yPof mX14_of 1 ∧ CU own index RX15 yPof mX15_of 1 ∧ CU own index RX16 yPof mX16_of 1 ∧ CU own index RX17 yPof mX17_of 1
section Of
variable {hh : List (Nat × Nat × Nat × Nat)} {G : Wd} {l : Launch} {M : MD} {d : Nat} {P : Option Value → Hp → Prop} {X : Nat → Hp → Prop} {pc : Nat} {ls st : List Value} {hp H : Hp} {c k : Nat} {A : Nat → Nat} {σ : Sg} {ρ : Rho} {E : Hp → Prop}
theorem R_callOf {index a tl ci : Nat} {fs : List Value} {x : Int32} (hd : decode M.2.1 pc = .ok (.invokevirtual index, 3)) (hc : CUof M.1.cls index) (ha : a < H.2) (he : H.1 a = .inr (ci, fs)) (hci : ci = 11 ∨ ci = 12 ∨ ci = 13 ∨ ci = 14) (hw : (st.map Value.category).sum ≤ 8) (hev : Ev G l (ofMD ci) d 0 0 [.ref a, .ref tl] H (fun v hp1 => v = some (.int x) ∧ hp1 = H))
    (kk : RnH hh G l M (d + 1) P X (pc + 3) ls (.int x :: st) H c k) : RnH hh G l M (d + 1) P X pc ls (.ref tl :: .ref a :: st) H c k := by
  obtain ⟨h1, h2, h3, h4⟩ := hc
  rcases hci with rfl | rfl | rfl | rfl
  · refine R_callU (As := [.ref tl]) hd h1 rfl rfl hw ha he rfl hev (Nat.zero_le _) (Nat.zero_le _) (fun v hp1 hq => ?_)
    obtain ⟨rfl, rfl⟩ := hq
    exact kk
  · refine R_callU (As := [.ref tl]) hd h2 rfl rfl hw ha he rfl hev (Nat.zero_le _) (Nat.zero_le _) (fun v hp1 hq => ?_)
    obtain ⟨rfl, rfl⟩ := hq
    exact kk
  · refine R_callU (As := [.ref tl]) hd h3 rfl rfl hw ha he rfl hev (Nat.zero_le _) (Nat.zero_le _) (fun v hp1 hq => ?_)
    obtain ⟨rfl, rfl⟩ := hq
    exact kk
  · refine R_callU (As := [.ref tl]) hd h4 rfl rfl hw ha he rfl hev (Nat.zero_le _) (Nat.zero_le _) (fun v hp1 hq => ?_)
    obtain ⟨rfl, rfl⟩ := hq
    exact kk
theorem is_truth (x : Int32) : s0_is x = s8_truth x := by
  unfold s0_is s8_truth
  rfl
theorem two_sw {d p0 p1 : Nat} (s x y : Int32) : RnS mX17_of (d + 2) 22 [.ref p0, .ref p1, .int x, .int y] [.int s] (some (.int (s8_done s x y))) := by
  refine gc_X17_of_22_1 ?_
  simp only [is_truth]
  refine ⟨fun h => ?_, ?_⟩
  · have ne : ∀ n : Int32, (37 ≤ n.toInt ∧ n.toInt ≤ 62) → ¬ s = n := fun n hn e => by subst e; omega
    simp [s8_done, ne 43 (by decide), ne 45 (by decide), ne 42 (by decide), ne 47 (by decide), ne 37 (by decide), ne 60 (by decide), ne 62 (by decide), ne 61 (by decide), ne 38 (by decide)]
  · refine ⟨?_, ?_, ?_, ?_, ?_, ?_, ?_, ?_, ?_, ?_, ?_, ?_, ?_, ?_, ?_, ?_, ?_, ?_, ?_, ?_, ?_, ?_, ?_, ?_, ?_, ?_⟩ <;> intro e <;> subst e <;> first
      | rfl
      | (refine ⟨fun h => ⟨h, ?_⟩, fun h => ?_⟩ <;> simp [s8_done, h])
      | simp [s8_done]
theorem ev_of {tl : Nat} {q : Nat → Int32} (hH : ∀ a e, atC A hp a e → a < H.2 ∧ H.1 a = e) (htl : tl < H.2 ∧ H.1 tl = .inl (0, 6, .inl q)) : ∀ (n p : Nat) (L : List (Int32 × Int32)), PartAt A hp n p L → ∃ (x : Int32) (ci : Nat) (fs : List Value), (∀ stk, runL q L stk = x :: stk) ∧ atC A hp p (.inr (ci, fs)) ∧ (ci = 11 ∨ ci = 12 ∨ ci = 13 ∨ ci = 14) ∧ ∀ (G : Wd) (l : Launch) (d : Nat), Ev G l (ofMD ci) (d + n + 1) 0 0 [.ref p, .ref tl] H (fun v hp1 => v = some (.int x) ∧ hp1 = H) := by
  intro n
  induction n with
  | zero => intro p L h; exact h.elim
  | succ n ih =>
    intro p L h
    rcases h with ⟨v, h1, rfl⟩ | ⟨w, hw, h1, rfl⟩ | ⟨a, L1, h1, h2, rfl⟩ | ⟨s, a, b, L1, L2, h1, h2, h3, rfl⟩
    · refine ⟨v, 12, _, fun stk => rfl, h1, by omega, fun G l d => ?_⟩
      obtain ⟨g1, g2⟩ := hH _ _ h1
      refine Ev.of (by decide) (Nat.le_of_ble_eq_true rfl) ?_
      refine R_aload_n dX15_of_0 rfl ?_
      refine R_getM dX15_of_1 fm_X15_7_12 g1 g2 (v := .int v) rfl ?_
      exact R_iret dX15_of_4 rfl rfl ⟨rfl, rfl⟩
    · refine ⟨q w, 13, _, fun stk => ?_, h1, by omega, fun G l d => ?_⟩
      · show rpn1 q 1 (nI w) stk = _
        unfold rpn1
        rw [if_neg (by decide), if_pos rfl, nI_clamp (by omega)]
      · obtain ⟨g1, g2⟩ := hH _ _ h1
        refine Ev.of (by decide) (Nat.le_of_ble_eq_true rfl) ?_
        refine R_aload_n dX16_of_0 rfl ?_
        refine R_aload_n dX16_of_1 rfl ?_
        refine R_getM dX16_of_2 fm_X16_7_13 g1 g2 (v := .int (nI w)) rfl ?_
        refine R_iald dX16_of_5 htl.1 htl.2 (vp_in_nI hw (by decide)) ?_
        rw [nI_clamp (by omega)]
        exact R_iret dX16_of_6 rfl rfl ⟨rfl, rfl⟩
    · obtain ⟨x, ci, fs, r1, r2, r3, r4⟩ := ih a L1 h2
      refine ⟨s8_truth (if x = 0 then 1 else 0), 11, _, fun stk => ?_, h1, by omega, fun G l d => ?_⟩
      · rw [runL_app, r1]
        show rpn1 q 2 0 (x :: stk) = _
        unfold rpn1
        rw [if_neg (by decide), if_neg (by decide), if_pos rfl]
      · obtain ⟨g1, g2⟩ := hH _ _ h1
        obtain ⟨e1, e2⟩ := hH _ _ r2
        refine Ev.of (by decide) (Nat.le_of_ble_eq_true rfl) ?_
        refine R_aload_n dX14_of_0 rfl ?_
        refine R_getM dX14_of_1 fm_X14_7_11 g1 g2 (v := .ref a) rfl ?_
        refine R_aload_n dX14_of_4 rfl ?_
        refine R_callOf (d := d + n + 1) dX14_of_5 ⟨cu_X14_13_X14_of_X14, cu_X14_13_X15_of_X15, cu_X14_13_X16_of_X16, cu_X14_13_X17_of_X17⟩ e1 e2 r3 (Nat.le_of_ble_eq_true rfl) (r4 G l d) ?_
        refine R_if_ne 15 dX14_of_8 (by decide) (fun c1 => ?_) (fun c1 => ?_)
        · refine R_iconst (v := 0) dX14_of_15 (by decide) ?_
          exact R_iret dX14_of_16 rfl rfl ⟨by rw [if_neg c1]; rfl, rfl⟩
        · refine R_iconst (v := 1) dX14_of_11 (by decide) ?_
          refine R_goto 16 dX14_of_12 (by decide) ?_
          exact R_iret dX14_of_16 rfl rfl ⟨by rw [if_pos c1]; rfl, rfl⟩
    · obtain ⟨x, ci, fs, r1, r2, r3, r4⟩ := ih a L1 h2
      obtain ⟨y, cj, gs, s1, s2, s3, s4⟩ := ih b L2 h3
      refine ⟨s8_done s x y, 14, _, fun stk => ?_, h1, by omega, fun G l d => ?_⟩
      · rw [runL_app, runL_app, r1, s1]
        show rpn1 q 3 s (y :: x :: stk) = _
        unfold rpn1
        rw [if_neg (by decide), if_neg (by decide), if_neg (by decide)]
      · obtain ⟨g1, g2⟩ := hH _ _ h1
        obtain ⟨e1, e2⟩ := hH _ _ r2
        obtain ⟨f1, f2⟩ := hH _ _ s2
        refine Ev.of (by decide) (Nat.le_of_ble_eq_true rfl) ?_
        refine R_aload_n dX17_of_0 rfl ?_
        refine R_getM dX17_of_1 fm_X17_13_14 g1 g2 (v := .ref a) rfl ?_
        refine R_aload_n dX17_of_4 rfl ?_
        refine R_callOf (d := d + n + 1) dX17_of_5 ⟨cu_X17_20_X14_of_X14, cu_X17_20_X15_of_X15, cu_X17_20_X16_of_X16, cu_X17_20_X17_of_X17⟩ e1 e2 r3 (Nat.le_of_ble_eq_true rfl) (r4 G l d) ?_
        refine S_istore_n (ls1 := [.ref p, .ref tl, .int x, U_]) dX17_of_8 (by decide) rfl rfl ?_
        refine R_aload_n dX17_of_9 rfl ?_
        refine R_getM dX17_of_10 fm_X17_17_14 g1 g2 (v := .ref b) rfl ?_
        refine R_aload_n dX17_of_13 rfl ?_
        refine R_callOf (d := d + n + 1) dX17_of_14 ⟨cu_X17_20_X14_of_X14, cu_X17_20_X15_of_X15, cu_X17_20_X16_of_X16, cu_X17_20_X17_of_X17⟩ f1 f2 s3 (Nat.le_of_ble_eq_true rfl) (s4 G l d) ?_
        refine S_istore_n (ls1 := [.ref p, .ref tl, .int x, .int y]) dX17_of_17 (by decide) rfl rfl ?_
        refine R_aload_n dX17_of_18 rfl ?_
        refine R_getM dX17_of_19 fm_X17_7_14 g1 g2 (v := .int s) rfl ?_
        exact two_sw (d := d + n) s x y G l H
theorem V_of {index : Nat} {q : Nat × Nat × List (Int32 × Int32)} (hB : Bs ρ E A hp) (hq : rIll ρ = some q) (hd : decode M.2.1 pc = .ok (.invokevirtual index, 3)) (hc : CUof M.1.cls index) (hw : (st.map Value.category).sum ≤ 8)
    (kk : RnH hh G l M (d + 301) P X (pc + 3) ls (.int ((runL (σ.1 30) q.2.2 []).headD 0) :: st) (ov rgM A σ hp) c k) : RnH hh G l M (d + 301) P X pc ls (.ref (A 30) :: illV ρ :: st) (ov rgM A σ hp) c k := by
  obtain ⟨hP, h200⟩ := hB.2.1.2.2.2.2 q hq
  have e := ov_at (σ := σ) hB.1 (show 30 < rgM.2.2 by decide)
  obtain ⟨x, ci, fs, r1, r2, r3, r4⟩ := ev_of (hp := hp) (H := ov rgM A σ hp) (tl := A 30) (q := σ.1 30) (fun a e h => ⟨h.2.1, by rw [ov_out h.2.2.1]; exact h.2.2.2⟩) ⟨(hB.1.1 30 (by decide)).2, e⟩ q.2.1 q.1 q.2.2 hP
  have hv : illV ρ = .ref q.1 := by
    unfold illV
    rw [hq]
  rw [hv]
  rw [r1] at kk
  have hev := r4 G l (d + 299 - q.2.1)
  rw [show d + 299 - q.2.1 + q.2.1 + 1 = d + 300 by omega] at hev
  refine R_callOf (d := d + 300) hd hc r2.2.1 (by rw [ov_out r2.2.2.1]; exact r2.2.2.2) r3 hw hev ?_
  exact kk
end Of
