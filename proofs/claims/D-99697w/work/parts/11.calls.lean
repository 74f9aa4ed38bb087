/-! FOUNDATION 2: calls, entries, new -/
set_option maxRecDepth 100000
section Calls
variable {hh : List (Nat × Nat × Nat × Nat)} {G : Wd} {l : Launch} {M : MD} {d : Nat} {P : Option Value → Hp → Prop} {X : Nat → Hp → Prop} {pc : Nat} {ls st : List Value} {hp : Hp} {c k : Nat} {H : Heap}
theorem zqA.move {C n d9 : String} {j : Nat} {s U : State} {H0 H1 : Heap} (h : zqA C n d9 j G s H0) (hvm : s.vm.Alike U.vm) (hq : ∀ a : Nat, a < H0.size → ¬ aA G a → H1[a]? = H0[a]?) : zqA C n d9 j G U H1 :=
  ⟨h.1.elim (fun z => Or.inl ((z.moved hvm).kept hq)) (fun z => Or.inr ((z.moved hvm).kept hq)), (h.2.moved hvm).kept hq⟩
theorem GoodX.move {s U : State} {H0 H1 : Heap} (hG : GoodW G) (h : GoodX G s H0) (hW : s.WarmedH U.vm) (hb : G.1 K0 ≤ H0.size) (hq : ∀ a : Nat, a < H0.size → ¬ aA G a → H1[a]? = H0[a]?) : GoodX G U H1 := by
  obtain ⟨h1, h2, h3, h4, h5, h6, h7, h8, h9, h10, h11, h12, h13, h14, h15⟩ := h
  have hA := hW.alike
  have hlt : ∀ i, i < K0 → H1[G.1 i]? = H0[G.1 i]? := fun i hi => hq _ (Nat.lt_of_lt_of_le (hG.2.2 i hi) hb) (fun q => by have := hG.2.2 i hi; unfold aA at q; omega)
  refine ⟨fun w hw hb => nwB_move hb hW (h1 w hw hb), fun n hn => ?_, h3.moved hA, h4.moved hA, (h5.moved hA).kept (hlt 0 (by decide)), ⟨(h6.1.moved hA).kept hq, (h6.2.moved hA).kept hq⟩, ⟨(h7.1.moved hA).kept hq, (h7.2.moved hA).kept hq⟩, ⟨(h8.1.moved hA).kept hq, (h8.2.moved hA).kept hq⟩, (h9.moved hA).kept hq, (h10.moved hA).kept hq, fun q hq => (h11 q hq).warm hW, h12.moved hA, h13.move hA hq, h14.move hA hq, h15.move hA hq⟩
  match n, hn with
  | 0, _ => exact va_Fw.moved (by decide) hA (h2 0 (by decide))
  | 1, _ => exact va_Fw.moved (by decide) hA (h2 1 (by decide))
theorem GoodS.move {s U : State} {locs : List Loc} (h : GoodS G s) (hW : s.WarmedH U.vm) (hS : va_S (aA G) s.heap U.heap locs) : GoodS G U := ⟨h.1, va_K.moved hW.alike h.2.1, h.2.2.1.move h.1 hW h.2.2.2 hS.2.1, Nat.le_trans h.2.2.2 hS.1⟩
theorem blind (av : List Value) : FrameBlind (va_Pc av (fun U => GoodS G U ∧ GoodP G hp U.heap)) := by
  intro a U g mk q
  obtain ⟨q0, q1, q2⟩ := q
  exact ⟨q0, GoodS.move (U := U.calling g mk a) q1 (State.WarmedH.refl U) va_S.rf, q2⟩
theorem run_go {p : Program} {e : Env} {R : Room} {s : State} {m : MethodId} {args : Array Value} {below : List Frame} {meth : Method} {cd : Code} {locs : List Loc} {cells slots mc ms : Nat} {la : Array Slot} {st0 rest : List Value} {a : Array Value} {Q1 : Option Value → Hp → Prop} {Qf : State → Prop}
    (hr : va_Run p l e R s m args below meth cd H locs cells slots mc ms (F0 m pc la st0) rest (Qn G Q1 a) (aA G)) (hS : va_S (aA G) s.heap H locs)
    (kk : ∀ (v : Option Value) (hp1 : Hp) (H1 : Heap) (locs1 : List Loc), Q1 v hp1 → GoodP G hp1 H1 → va_S (aA G) s.heap H1 locs1 → W p l e R s m args below meth cd H1 locs1 (cells + mc) (slots + ms) Qf (F0 m (pc + 3) la ((v.map (cv G)).toList ++ rest))) : W p l e R s m args below meth cd H locs cells slots Qf (F0 m pc la st0) := by
  intro T hT Y
  obtain ⟨v, st₀, t, T', L, h0, X', hL, e1, e2, ⟨⟨v1, hp1, hv, hq, hg⟩, hz, hk⟩, st9⟩ := hr T hT Y
  cases hv
  rw [h0] at hz hk
  obtain ⟨t2, a1, b1⟩ := kk v1 hp1 T'.heap (locs ++ L) hq (by rw [e1]; exact hg)
    ⟨Nat.le_trans hS.1 (by rw [e1]; exact hz), fun q h1 h2 => by rw [e1, hk q (Nat.lt_of_lt_of_le h1 hS.1) h2]; exact hS.2.1 q h1 h2, fun q hq => by
      rcases List.mem_append.mp hq with h | h
      · exact hS.2.2 q h
      · exact hL q h⟩ T' rfl X'
  exact ⟨t2, st9 t2 a1, b1⟩
def okN (N : MD) (n : Nat) : Prop := (N.1.cls ≠ "java/lang/invoke/MethodHandle" ∧ N.1.cls ≠ "java/lang/invoke/VarHandle" ∧ (parseMethodDescriptor N.1.desc).map (fun d => d.parameters.length) = some n) ∧ N.2.2.1 ≤ 81
/-- a static call's words -/
def CS (own : String) (index : Nat) (N : MD) (n : Nat) : Prop := Cond.methodLink own index N.1 ∈ lw_all ∧ Cond.static N.1 ∈ lw_all ∧ Cond.initialized N.1.cls ∈ lw_all ∧ Cond.code N.1 N.2.1 N.2.2.1 N.2.2.2 ∈ lw_all ∧ okN N n
/-- a call's words, through an object of just that class -/
def CV (own : String) (index : Nat) (N : MD) (n : Nat) : Prop := Cond.methodLink own index N.1 ∈ lw_all ∧ Cond.instanceMethod N.1 ∈ lw_all ∧ Cond.selects N.1.cls N.1 N.1 ∈ lw_all ∧ Cond.initialized N.1.cls ∈ lw_all ∧ Cond.code N.1 N.2.1 N.2.2.1 N.2.2.2 ∈ lw_all ∧ okN N n
/-- a constructor's words -/
def CI (own : String) (index : Nat) (N : MD) (n : Nat) : Prop := Cond.methodLink own index N.1 ∈ lw_all ∧ Cond.instanceMethod N.1 ∈ lw_all ∧ Cond.initialized N.1.cls ∈ lw_all ∧ Cond.code N.1 N.2.1 N.2.2.1 N.2.2.2 ∈ lw_all ∧ (N.1.name = "<init>" ∧ N.2.2.2 = none) ∧ okN N n
theorem cat_map (rest : List Value) (h : (rest.map Value.category).sum ≤ 8) {m : MethodId} {pc : Nat} {la : Array Slot} {st0 : List Value} : 2 * (F0 m pc la st0).monitorRoom + ((rest.map (cv G)).map fun v => v.category).sum ≤ 8 := by
  have e : ((rest.map (cv G)).map fun v => v.category) = rest.map Value.category := by
    rw [List.map_map]
    congr 1
    funext v
    exact cv_cat G v
  rw [e]
  have : (F0 m pc la st0).monitorRoom = 0 := rfl
  omega
theorem R_callS {index n c1 k1 : Nat} {N : MD} {As rest : List Value} {Q1 : Option Value → Hp → Prop} (hd : decode M.2.1 pc = .ok (.invokestatic index, 3)) (hc : CS M.1.cls index N n) (hst : st = As.reverse ++ rest) (hn : As.length = n) (hw : (rest.map Value.category).sum ≤ 8) (hev : Ev G l N d c1 k1 As hp Q1) (hcc : c1 ≤ c) (hkk : k1 ≤ k)
    (kk : ∀ v hp1, Q1 v hp1 → RnH hh G l M (d + 1) P X (pc + 3) ls (v.toList ++ rest) hp1 (c - c1) (k - k1)) : RnH hh G l M (d + 1) P X pc ls st hp c k := by
  intro p e s m args below meth cd mc ms H locs cells slots la C g S L h1 h2
  obtain ⟨q1, q2, q3, q4, q5, q6⟩ := hc
  have hts := C.2.2.2.2.2.2.1
  refine run_go (va_runS (As := As.map (cv G)) (rest := rest.map (cv G)) (Ts := lw_all) ⟨C.1, C.2.1, C.2.2.1, C.2.2.2.2.2.1, hts⟩ hev (va_cwS n hts (lw_S q1 q2 q3 q4) rfl rfl rfl q5 ⟨Nat.le_refl _, by show 8 + (N.2.2.1 + 11) + 100 * d ≤ 100 * (d + 1); omega⟩)
    ⟨blind _, fun U hU hW => ⟨rfl, GoodS.move C.2.2.2.2.2.2.2.1 hW (by rw [hU]; exact S), by rw [hU]; exact g⟩⟩ rfl (by rw [List.length_map]; exact hn) L.1 (by show st.map (cv G) = _; rw [hst, List.map_append, List.map_reverse]) (cat_map rest hw) hd ⟨by show cells + c1 ≤ mc; omega, by show slots + k1 ≤ ms; omega⟩) S (fun v hp1 H1 locs1 hq g1 S1 => ?_)
  have h3 := kk v hp1 hq p e s m args below meth cd mc ms H1 locs1 (cells + c1) (slots + k1) la C g1 S1 L (by omega) (by omega)
  rw [List.map_append] at h3
  have e3 : v.toList.map (cv G) = (v.map (cv G)).toList := by cases v <;> rfl
  rw [e3] at h3
  exact h3
theorem R_callV {index n c1 k1 a ci : Nat} {fs : List Value} {N : MD} {As rest : List Value} {Q1 : Option Value → Hp → Prop} (hd : decode M.2.1 pc = .ok (.invokevirtual index, 3)) (hc : CV M.1.cls index N n) (hst : st = As.reverse ++ .ref a :: rest) (hn : As.length = n) (hw : (rest.map Value.category).sum ≤ 8) (ha : a < hp.2) (he : hp.1 a = .inr (ci, fs)) (hcl : (clA[ci]?).map (fun q => q.1) = some N.1.cls) (hev : Ev G l N d c1 k1 (.ref a :: As) hp Q1) (hcc : c1 ≤ c) (hkk : k1 ≤ k)
    (kk : ∀ v hp1, Q1 v hp1 → RnH hh G l M (d + 1) P X (pc + 3) ls (v.toList ++ rest) hp1 (c - c1) (k - k1)) : RnH hh G l M (d + 1) P X pc ls st hp c k := by
  intro p e s m args below meth cd mc ms H locs cells slots la C g S L h1 h2
  obtain ⟨q1, q2, q3, q4, q5, q6, q7⟩ := hc
  have hts := C.2.2.2.2.2.2.1
  obtain ⟨C9, hC9, hC8⟩ : ∃ C9, clA[ci]? = some C9 ∧ C9.1 = N.1.cls := by
    cases h9 : clA[ci]? with
    | none => rw [h9] at hcl; cases hcl
    | some q => rw [h9] at hcl; exact ⟨q, rfl, by simpa using hcl⟩
  have hrec := va_recv C.2.2.2.2.2.2.2.1.2.1 (g.one ha he (ne_c hC9)) hC9 (q0 := 0) rfl
  rw [hC8] at hrec
  refine run_go (va_runV (As := As.map (cv G)) (rest := rest.map (cv G)) (b := G.1 a) (C := N.1.cls) (Ts := lw_all) ⟨C.1, C.2.1, C.2.2.1, C.2.2.2.2.2.1, hts⟩ hev (cwV n hts (lw_V q1 q2 q3 q4 q5) rfl rfl rfl ⟨rfl, q6⟩ ⟨Nat.le_refl _, by show 8 + (N.2.2.1 + 11) + 100 * d ≤ 100 * (d + 1); omega⟩)
    ⟨blind _, hrec, fun U hU hW => ⟨rfl, GoodS.move C.2.2.2.2.2.2.2.1 hW (by rw [hU]; exact S), by rw [hU]; exact g⟩⟩ rfl (by rw [List.length_map]; exact hn) L.1 (by show st.map (cv G) = _; rw [hst, List.map_append, List.map_reverse]; rfl) (cat_map rest hw) hd ⟨by show cells + c1 ≤ mc; omega, by show slots + k1 ≤ ms; omega⟩) S (fun v hp1 H1 locs1 hq g1 S1 => ?_)
  have h3 := kk v hp1 hq p e s m args below meth cd mc ms H1 locs1 (cells + c1) (slots + k1) la C g1 S1 L (by omega) (by omega)
  rw [List.map_append] at h3
  have e3 : v.toList.map (cv G) = (v.map (cv G)).toList := by cases v <;> rfl
  rw [e3] at h3
  exact h3
theorem R_callI {index n c1 k1 a : Nat} {N : MD} {As rest : List Value} {Q1 : Option Value → Hp → Prop} (hd : decode M.2.1 pc = .ok (.invokespecial index, 3)) (hc : CI M.1.cls index N n) (hst : st = As.reverse ++ .ref a :: rest) (hn : As.length = n) (hw : (rest.map Value.category).sum ≤ 8) (hev : Ev G l N d c1 k1 (.ref a :: As) hp Q1) (hcc : c1 ≤ c) (hkk : k1 ≤ k)
    (kk : ∀ v hp1, Q1 v hp1 → RnH hh G l M (d + 1) P X (pc + 3) ls (v.toList ++ rest) hp1 (c - c1) (k - k1)) : RnH hh G l M (d + 1) P X pc ls st hp c k := by
  intro p e s m args below meth cd mc ms H locs cells slots la C g S L h1 h2
  obtain ⟨q1, q2, q4, q5, ⟨q8, q9⟩, q6, q7⟩ := hc
  have hts := C.2.2.2.2.2.2.1
  obtain ⟨y, cc, mL, rt⟩ := N
  cases q9
  refine run_go (va_runI (As := As.map (cv G)) (rest := rest.map (cv G)) (b := G.1 a) (Ts := lw_all) ⟨C.1, C.2.1, C.2.2.1, C.2.2.2.2.2.1, hts⟩ hev (cwI n hts (lw_meth q5) rfl rfl rfl (hts _ q4) (hts _ q1) (hts _ q2) q8 q6 ⟨Nat.le_refl _, by show 8 + (mL + 11) + 100 * d ≤ 100 * (d + 1); have : mL ≤ 81 := q7; omega⟩)
    ⟨blind _, fun U hU hW => ⟨rfl, GoodS.move C.2.2.2.2.2.2.2.1 hW (by rw [hU]; exact S), by rw [hU]; exact g⟩⟩ rfl (by rw [List.length_map]; exact hn) L.1 (by show st.map (cv G) = _; rw [hst, List.map_append, List.map_reverse]; rfl) (cat_map rest hw) hd ⟨by show cells + c1 ≤ mc; omega, by show slots + k1 ≤ ms; omega⟩) S (fun v hp1 H1 locs1 hq g1 S1 => ?_)
  have h3 := kk v hp1 hq p e s m args below meth cd mc ms H1 locs1 (cells + c1) (slots + k1) la C g1 S1 L (by omega) (by omega)
  rw [List.map_append] at h3
  have e3 : v.toList.map (cv G) = (v.map (cv G)).toList := by cases v <;> rfl
  rw [e3] at h3
  exact h3
theorem R_objInit {index a : Nat} (hd : decode M.2.1 pc = .ok (.invokespecial index, 3)) (hq : Cond.methodLink M.1.cls index Lib.objectInit ∈ lw_all) (q2 : Cond.instanceMethod Lib.objectInit ∈ lw_all) (q3 : Cond.code Lib.objectInit ⟨#[0xb1]⟩ 1 none ∈ lw_all) (hw : (st.map Value.category).sum ≤ 8) (kk : RnH hh G l M (d + 1) P X (pc + 3) ls st hp c k) : RnH hh G l M (d + 1) P X pc ls (.ref a :: st) hp c k := by
  intro p e s m args below meth cd mc ms H locs cells slots la C g S L h1 h2
  have hts := C.2.2.2.2.2.2.1
  have h8 := cat_map (G := G) (m := m) (pc := pc) (la := la) (st0 := (Value.ref a :: st).map (cv G)) st hw
  exact W.objInit C.1 C.2.1 C.2.2.2.2.2.1 (hts _ hq) (hts _ q2) (hts _ q3) rfl (by rw [C.2.2.1]; exact L.1) rfl hd (by show 1 ≤ d + 1; omega) (by show _ + 12 ≤ 100 * (d + 1); omega) (kk p e s m args below meth cd mc ms H locs cells slots la C g S L h1 h2)
/-! entries -/
def spread : List Value → List Value
  | [] => []
  | v :: vs => if v.category = 2 then v :: U_ :: spread vs else v :: spread vs
def eL (as : List Value) (n : Nat) : List Value := spread as ++ List.replicate (n - (spread as).length) U_
theorem spread_lv : ∀ (as : List Value) (i j : Nat) (v : Value), (spread as)[j]? = some v → isU v = false → (i + j, cv G v) ∈ lv_args i (as.map (cv G))
  | [], i, j, v, h, _ => by simp [spread] at h
  | w :: ws, i, j, v, h, hu => by
    by_cases hc : w.category = 2
    · have e : spread (w :: ws) = w :: U_ :: spread ws := by simp [spread, hc]
      rw [e] at h
      have e2 : lv_args i ((w :: ws).map (cv G)) = (i, cv G w) :: lv_args (if (cv G w).category = 2 then i + 2 else i + 1) (ws.map (cv G)) := rfl
      rw [e2, cv_cat, if_pos hc]
      match j, h with
      | 0, h => simp at h; subst h; exact List.mem_cons_self
      | 1, h => simp at h; subst h; cases hu
      | j + 2, h =>
        have := spread_lv ws (i + 2) j v (by simpa using h) hu
        exact List.mem_cons_of_mem _ (by rw [show i + (j + 2) = i + 2 + j by omega]; exact this)
    · have e : spread (w :: ws) = w :: spread ws := by simp [spread, hc]
      rw [e] at h
      have e2 : lv_args i ((w :: ws).map (cv G)) = (i, cv G w) :: lv_args (if (cv G w).category = 2 then i + 2 else i + 1) (ws.map (cv G)) := rfl
      rw [e2, cv_cat, if_neg hc]
      match j, h with
      | 0, h => simp at h; subst h; exact List.mem_cons_self
      | j + 1, h =>
        have := spread_lv ws (i + 1) j v (by simpa using h) hu
        exact List.mem_cons_of_mem _ (by rw [show i + (j + 1) = i + 1 + j by omega]; exact this)
theorem eL_lv {as : List Value} {n : Nat} : ∀ q ∈ lvL G 0 (eL as n), q ∈ lv_args 0 (as.map (cv G)) := by
  intro q hq
  obtain ⟨j, v, h1, h2, h3⟩ := (lvL_mem _ 0 q).mp hq
  subst h3
  unfold eL at h1
  by_cases hj : j < (spread as).length
  · rw [List.getElem?_append_left hj] at h1
    exact spread_lv as 0 j v h1 h2
  · rw [List.getElem?_append_right (by omega)] at h1
    have := List.mem_of_getElem? h1
    rw [List.mem_replicate] at this
    rw [this.2] at h2
    cases h2
/-- a contract out of the run of its body -/
theorem Ev.of {as : List Value} (hy : plainName M.1.cls = true) (hn : (lg_sl (as.map (cv G))).length ≤ M.2.2.1) (kk : RnH [] G l M d P noX 0 (eL as M.2.2.1) [] hp c k) : Ev G l M d c k as hp P := by
  refine Met.ofW (cc := M.2.1) (maxL := M.2.2.1) (ret := M.2.2.2) hy rfl ?_
  intro p e s m args below meth cd s₁ B hml hv
  obtain ⟨rfl, hS, hP⟩ := hv
  have hts := atoms_spec (ws := ws_ M.1 M.2.1 M.2.2.1 M.2.2.2) B.pre
  have hcd : cd.exceptionTable.toList = tableOf [] := by
    obtain ⟨meth9, c9, h1, h2, -, -, -, -, h7, -⟩ := Cond.code_spec B.named (hts _ List.mem_cons_self)
    cases Option.some.inj (h1.symm.trans B.method)
    cases Option.some.inj (h2.symm.trans (Stand.of_body B).code)
    rw [Array.isEmpty_iff.mp h7]
    rfl
  have hts' : ∀ w ∈ lw_all, w.before _ s = true := fun w h => hts w (List.mem_cons_of_mem _ h)
  have hC : Cx G M [] p s m (as.map (cv G)).toArray meth cd := ⟨B.exec, B.bytes, hml, B.returns, B.notSynchronized, findClass_of_methodNamed B.named, hts', hS, hcd, (name_of_methodNamed B.named B.method).1⟩
  have hl := lv_entry (as.map (cv G)) (n := M.2.2.1) hn
  rw [lg_entry_eq]
  have h3 := kk p e s m _ below meth cd c k s.heap [] 0 0 _ hC hP va_S.rf (lv_less hl eL_lv) (by omega) (by omega)
  intro T hT Y
  obtain ⟨t, a1, o, b1, b2, b3⟩ := h3 T hT Y
  rcases b3 with b3 | ⟨_, _, _, _, h, _⟩
  · exact ⟨t, a1, o, b1, b2, b3.1, b3.2⟩
  · exact h.elim
theorem Ev.mono {as : List Value} {Q1 : Option Value → Hp → Prop} (h : Ev G l M d c k as hp P) (hQ : ∀ v hp1, P v hp1 → Q1 v hp1) : Ev G l M d c k as hp Q1 := by
  intro p e ha hc hk s m args below hf hfit hheap happ
  obtain ⟨n, o, h1, h2, h3, ⟨⟨⟨v, hp1, e1, e2, e3⟩, e4⟩, e5⟩⟩ := h p e ha hc hk s m args below hf hfit hheap happ
  exact ⟨n, o, h1, h2, h3, ⟨⟨⟨v, hp1, e1, hQ _ _ e2, e3⟩, e4⟩, e5⟩⟩
/-! making -/
theorem GoodP.new (W0 : GoodW G) (g : GoodP G hp H) {e : va_E} {H1 : Heap} (he : va_at G.2.1 clA (G.1 hp.2, ce G e) H1) (z : H1.size = G.1 hp.2 + 1) (oq : ∀ q, q < G.1 hp.2 → H1[q]? = H[q]?) : GoodP G (hnew hp e) H1 := by
  have hK := g.1
  refine ⟨by show K0 ≤ hp.2 + 1; omega, ?_, fun i hi hn => ?_⟩
  · have h1 := W0.2.1 (hp.2 - K0)
    have h2 := W0.2.1 (hp.2 + 1 - K0)
    rw [show K0 + (hp.2 - K0) = hp.2 by omega] at h1
    rw [show K0 + (hp.2 + 1 - K0) = hp.2 + 1 by omega] at h2
    show H1.size = G.1 (hp.2 + 1)
    omega
  · by_cases h : i = hp.2
    · subst h
      show va_at G.2.1 clA (G.1 hp.2, ce G (if hp.2 = hp.2 then e else hp.1 hp.2)) H1
      rw [if_pos rfl]; exact he
    · show va_at G.2.1 clA (G.1 i, ce G (if i = hp.2 then e else hp.1 i)) H1
      have hn' : (if i = hp.2 then e else hp.1 i) ≠ dead := hn
      rw [if_neg h] at hn' ⊢
      have hi' : i < hp.2 := by have : i < hp.2 + 1 := hi; omega
      have h9 := g.2.2 i hi' hn'
      exact h9.kept (oq _ (by have := h9.lt; rw [g.2.1] at this; exact this))
theorem S_new {s : State} {locs : List Loc} {H1 : Heap} {n : Nat} (S : va_S (aA G) s.heap H locs) (hz : H.size = n) (z : H1.size = n + 1) (oq : ∀ q, q < n → H1[q]? = H[q]?) : va_S (aA G) s.heap H1 locs := by
  have := S.1
  exact ⟨by omega, fun q h1 h2 => (oq q (by omega)).trans (S.2.1 q h1 h2), S.2.2⟩
/-- the class ci of N fields, its default values fs -/
def Cn (own : String) (index ci : Nat) (fs : List Value) (N : Nat) : Prop := ∃ (C : String) (T : u_T) (ty : Nat → FieldType), clA[ci]? = some (C, T, N) ∧ (∀ j, j < N → parseFieldDescriptor (T j).2.2.1 = some (ty j)) ∧ (∀ j, j < N → defaultValue (ty j) = vp_V fs j) ∧ (∀ w ∈ u_ws C T N, w ∈ lw_all) ∧ Cond.classLink own index C ∈ lw_all ∧ Cond.instantiable C N ∈ lw_all ∧ Cond.initialized C ∈ lw_all
theorem dv_cv (ty : FieldType) : cv G (defaultValue ty) = defaultValue ty := by cases ty <;> rfl
theorem R_new {index ci N : Nat} {fs : List Value} (hd : decode M.2.1 pc = .ok (.new index, 3)) (hc : Cn M.1.cls index ci fs N) (hcc : 1 ≤ c) (hkk : N ≤ k) (kk : RnH hh G l M d P X (pc + 3) ls (.ref hp.2 :: st) (hnew hp (.inr (ci, fs))) (c - 1) (k - N)) : RnH hh G l M d P X pc ls st hp c k := by
  intro p e s m args below meth cd mc ms H locs cells slots la C g S L h1 h2
  obtain ⟨C9, T, ty, hcl, hty, hfs, hin, q1, q2, q3⟩ := hc
  have hts := C.2.2.2.2.2.2.1
  have W0 := C.2.2.2.2.2.2.2.1.1
  have hKn := C.2.2.2.2.2.2.2.1.2.1.1 ci _ hcl
  refine W.newcK C.1 C.2.1 C.2.2.2.2.2.1 (hts _ q1) (hts _ q2) (hts _ q3) rfl hd (by show cells + 1 ≤ mc; omega) (by show slots + N ≤ ms; omega) hKn.2.1 g.2.1 fun H1 kC hkC e1 z1 o1 => ?_
  have hv : va_at G.2.1 clA (G.1 hp.2, ce G (.inr (ci, fs))) H1 := ⟨_, hcl, (u_born ty hts hin hKn hkC e1 hty).to (fun j hj => by
    show defaultValue (ty j) = vp_V (fs.map (cv G)) j
    have h9 := hfs j hj
    have h8 : vp_V (fs.map (cv G)) j = cv G (vp_V fs j) := by
      unfold vp_V
      rw [List.getD_eq_getElem?_getD, List.getD_eq_getElem?_getD, List.getElem?_map]
      cases fs[j]? <;> rfl
    rw [h8, ← h9, dv_cv])⟩
  exact kk p e s m args below meth cd mc ms H1 locs (cells + 1) (slots + N) la C (g.new W0 hv z1 o1) (S_new S g.2.1 z1 o1) L (by omega) (by omega)
end Calls
