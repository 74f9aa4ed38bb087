/-! going through a list -/
set_option maxRecDepth 100000
section L5
variable {hh : List (Nat × Nat × Nat × Nat)} {G : Wd} {l : Launch} {M : MD} {d : Nat} {P : Option Value → Hp → Prop} {X : Nat → Hp → Prop} {pc : Nat} {ls st : List Value} {hp : Hp} {c k : Nat} {H : Heap}
theorem run_go5 {p : Program} {e : Env} {R : Room} {s : State} {m : MethodId} {args : Array Value} {below : List Frame} {meth : Method} {cd : Code} {locs : List Loc} {cells slots mc ms : Nat} {la : Array Slot} {st0 rest : List Value} {a : Array Value} {Q1 : Option Value → Hp → Prop} {Qf : State → Prop}
    (hr : va_Run5 p l e R s m args below meth cd H locs cells slots mc ms (F0 m pc la st0) rest (Qn G Q1 a) (aA G)) (hS : va_S (aA G) s.heap H locs)
    (kk : ∀ (v : Option Value) (hp1 : Hp) (H1 : Heap) (locs1 : List Loc), Q1 v hp1 → GoodP G hp1 H1 → va_S (aA G) s.heap H1 locs1 → W p l e R s m args below meth cd H1 locs1 (cells + mc) (slots + ms) Qf (F0 m (pc + 5) la ((v.map (cv G)).toList ++ rest))) : W p l e R s m args below meth cd H locs cells slots Qf (F0 m pc la st0) := by
  intro T hT Y
  obtain ⟨v, st₀, t, T', L, h0, X', hL, e1, e2, ⟨⟨v1, hp1, hv, hq, hg⟩, hz, hk⟩, st9⟩ := hr T hT Y
  cases hv
  rw [h0] at hz hk
  obtain ⟨t2, a1, b1⟩ := kk v1 hp1 T'.heap (locs ++ L) hq (by rw [e1]; exact hg)
    ⟨Nat.le_trans hS.1 (by rw [e1]; exact hz), fun q h1 h2 => by rw [e1, hk q (Nat.lt_of_lt_of_le h1 hS.1) h2]; exact hS.2.1 q h1 h2, fun q hq => by
      rcases List.mem_append.mp hq with h | h
      · exact hS.2.2 q h
      · exact hL q h⟩ T' rfl X'
  exact ⟨t2, st9 t2 a1, b1⟩
/-- a call through Iterator, of ArrayList's own -/
def CF (own : String) (index w : Nat) (N : MD) : Prop := w < 2 ∧ N.1 = iterY w ∧ Cond.methodLink own index (iterX w) ∈ lw_all ∧ Cond.selects "java/util/ArrayList$Itr" (iterX w) (iterY w) ∈ lw_all ∧ Cond.instanceMethod (iterY w) ∈ lw_all ∧ Cond.initialized (iterY w).cls ∈ lw_all ∧ Cond.code N.1 N.2.1 N.2.2.1 N.2.2.2 ∈ lw_all ∧ N.2.2.1 ≤ 81
theorem R_callF {index count w c1 k1 a : Nat} {fs : List Value} {N : MD} {rest : List Value} {Q1 : Option Value → Hp → Prop} (hd : decode M.2.1 pc = .ok (.invokeinterface index count, 5)) (hc : CF M.1.cls index w N) (hst : st = .ref a :: rest) (hw : (rest.map Value.category).sum ≤ 8) (ha : a < hp.2) (he : hp.1 a = .inr (17, fs)) (hev : Ev G l N d c1 k1 [.ref a] hp Q1) (hcc : c1 ≤ c) (hkk : k1 ≤ k)
    (kk : ∀ v hp1, Q1 v hp1 → RnH hh G l M (d + 1) P X (pc + 5) ls (v.toList ++ rest) hp1 (c - c1) (k - k1)) : RnH hh G l M (d + 1) P X pc ls st hp c k := by
  intro p e s m args below meth cd mc ms H locs cells slots la C g S L h1 h2
  obtain ⟨q0, q1, q2, q3, q4, q5, q6, q7⟩ := hc
  have hts := C.2.2.2.2.2.2.1
  have hC9 : clA[17]? = some (RJ10, TJ10, 4) := rfl
  have hrec := va_recv C.2.2.2.2.2.2.2.1.2.1 (g.one ha he (ne_c hC9)) hC9 (q0 := 0) rfl
  have hcls := (C.2.2.2.2.2.2.2.1.2.1.1 17 _ hC9).2
  have hG : GoodIn lw_all (va_wsF M.1.cls index RJ10 (iterX w) N.1 (ws_ N.1 N.2.1 N.2.2.1 N.2.2.2)) := by
    refine lw_app (fun z h => ?_) (ws_good q6)
    simp only [List.mem_cons, List.not_mem_nil, or_false] at h
    rcases h with rfl | rfl | rfl | rfl
    · exact q2
    · rw [q1]; exact q3
    · rw [q1]; exact q4
    · rw [q1]; exact q5
  have hF : va_Fw RJ10 (iterX w) N.1 s := by rw [q1]; exact C.2.2.2.2.2.2.2.1.2.2.1.2.1 w q0
  have hx : (iterX w).cls ≠ "java/lang/invoke/MethodHandle" ∧ (iterX w).cls ≠ "java/lang/invoke/VarHandle" ∧ (parseMethodDescriptor (iterX w).desc).map (fun d => d.parameters.length) = some 0 := by
    match w, q0 with
    | 0, _ => exact ⟨by decide +kernel, by decide +kernel, by decide +kernel⟩
    | 1, _ => exact ⟨by decide +kernel, by decide +kernel, by decide +kernel⟩
  refine run_go5 (va_runF (x := iterX w) (As := []) (rest := rest.map (cv G)) (b := G.1 a) (C := RJ10) (Ts := lw_all) hcls ⟨C.1, C.2.1, C.2.2.1, C.2.2.2.2.2.1, hts⟩ hev (va_cwF 0 hts hG rfl rfl rfl hF hx ⟨Nat.le_refl _, by show 8 + (N.2.2.1 + 11) + 100 * d ≤ 100 * (d + 1); omega⟩)
    ⟨blind _, hrec, fun U hU hW => ⟨rfl, GoodS.move C.2.2.2.2.2.2.2.1 hW (by rw [hU]; exact S), by rw [hU]; exact g⟩⟩ rfl rfl L.1 (by show st.map (cv G) = _; rw [hst]; rfl) (cat_map rest hw) hd ⟨by show cells + c1 ≤ mc; omega, by show slots + k1 ≤ ms; omega⟩) S (fun v hp1 H1 locs1 hq g1 S1 => ?_)
  have h3 := kk v hp1 hq p e s m args below meth cd mc ms H1 locs1 (cells + c1) (slots + k1) la C g1 S1 L (by omega) (by omega)
  rw [List.map_append] at h3
  have e3 : v.toList.map (cv G) = (v.map (cv G)).toList := by cases v <;> rfl
  rw [e3] at h3
  exact h3
end L5
section L6
variable {G : Wd} {l : Launch} {hp : Hp} {L ed n cap a j : Nat} {mc last : Int32} {f : Nat → Option Nat}
abbrev itC (cur last mc : Int32) (L : Nat) : va_E := .inr (17, [.int cur, .int last, .int mc, .ref L])
theorem ev_itinit (d : Nat) (h : isLs hp L mc ed n) (ha : a < hp.2) (hK : K0 ≤ a) (hne : L ≠ a) (he : hp.1 a = .inr (17, [.int 0, .int 0, .int 0, .null])) : Ev G l mJ10_init (d + 1) 0 0 [.ref a, .ref L] hp (fun v hp1 => v = none ∧ hp1 = hset hp a (itC 0 (-1) mc L)) := by
  refine Ev.of (by decide) (Nat.le_of_ble_eq_true rfl) ?_
  refine R_aload_n dJ10_init_0 rfl ?_
  refine R_aload_n dJ10_init_1 rfl ?_
  refine R_putFM dJ10_init_2 fl_J10_1_17 rfl rfl ft_17_3 rfl rfl ha hK he (Nat.le_of_ble_eq_true rfl) ?_
  refine R_aload_n dJ10_init_5 rfl ?_
  refine R_objInit dJ10_init_6 q710 q155 q156 (Nat.le_of_ble_eq_true rfl) ?_
  refine R_aload_n dJ10_init_9 rfl ?_
  refine R_iconst (v := (-1)) dJ10_init_10 (by decide) ?_
  refine R_putM dJ10_init_11 fm_J10_13_17 ft_17_1 rfl rfl ha hK hsS (Nat.le_of_ble_eq_true rfl) ?_
  rw [hss]
  refine R_aload_n dJ10_init_14 rfl ?_
  refine R_aload_n dJ10_init_15 rfl ?_
  refine R_getM dJ10_init_16 fm_J10_1_17 ha hsS (v := .ref L) rfl ?_
  refine R_getM dJ10_init_19 fm_J10_17_16 h.1 (by rw [hsN hne]; exact h.2) (v := .int mc) rfl ?_
  refine R_putM dJ10_init_22 fm_J10_22_17 ft_17_2 rfl rfl ha hK hsS (Nat.le_of_ble_eq_true rfl) ?_
  rw [hss]
  exact R_vret dJ10_init_25 rfl ⟨rfl, rfl⟩
theorem ev_iterator (d : Nat) (h : isLs hp L mc ed n) (hK : K0 ≤ hp.2) : Ev G l mJ2_iterator (d + 2) 1 4 [.ref L] hp (fun v hp1 => v = some (.ref hp.2) ∧ hp1 = hnew hp (itC 0 (-1) mc L)) := by
  have hne : L ≠ hp.2 := fun e => by have := h.1; omega
  refine Ev.of (by decide) (Nat.le_of_ble_eq_true rfl) ?_
  refine R_new dJ2_iterator_0 cn_J2_267 (Nat.le_refl _) (Nat.le_refl _) ?_
  refine R_dup dJ2_iterator_3 rfl ?_
  refine R_aload_n dJ2_iterator_4 rfl ?_
  refine R_callI (As := [.ref L]) dJ2_iterator_5 ci_J2_269 rfl rfl (Nat.le_of_ble_eq_true rfl) (ev_itinit (L := L) (mc := mc) (ed := ed) (n := n) (a := hp.2) d ⟨by show L < hp.2 + 1; have := h.1; omega, by rw [hnN hne]; exact h.2⟩ (by show hp.2 < hp.2 + 1; omega) hK hne hnS) (Nat.zero_le _) (Nat.zero_le _) (fun v hp1 hq => ?_)
  obtain ⟨rfl, rfl⟩ := hq
  rw [hnn]
  exact R_aret dJ2_iterator_8 rfl (Or.inl ⟨_, rfl⟩) (Or.inr ⟨_, rfl⟩) ⟨rfl, rfl⟩
theorem ev_hasNext (d : Nat) {mc2 : Int32} (h : isLs hp L mc2 ed n) (ha : a < hp.2) (he : hp.1 a = itC (nI j) last mc L) (hj : j < 2 ^ 31) (hn : n < 2 ^ 31) : Ev G l mJ10_hasNext (d + 1) 0 0 [.ref a] hp (fun v hp1 => v = some (.int (if j = n then 0 else 1)) ∧ hp1 = hp) := by
  refine Ev.of (by decide) (Nat.le_of_ble_eq_true rfl) ?_
  refine R_aload_n dJ10_hasNext_0 rfl ?_
  refine R_getM dJ10_hasNext_1 fm_J10_25_17 ha he (v := .int (nI j)) rfl ?_
  refine R_aload_n dJ10_hasNext_4 rfl ?_
  refine R_getM dJ10_hasNext_5 fm_J10_1_17 ha he (v := .ref L) rfl ?_
  refine R_getM dJ10_hasNext_8 fm_J10_28_16 h.1 h.2 (v := .int (nI n)) rfl ?_
  refine R_icmp_eq 18 dJ10_hasNext_11 (by decide) (fun q => ?_) (fun q => ?_)
  · refine R_iconst (v := 0) dJ10_hasNext_18 (by decide) ?_
    refine R_iret dJ10_hasNext_19 rfl rfl ⟨?_, rfl⟩
    rw [if_pos ((nI_eq hj hn).mp q)]
  · refine R_iconst (v := 1) dJ10_hasNext_14 (by decide) ?_
    refine R_goto 19 dJ10_hasNext_15 (by decide) ?_
    refine R_iret dJ10_hasNext_19 rfl rfl ⟨?_, rfl⟩
    rw [if_neg (fun z => q (by rw [z]))]
theorem ev_check (d : Nat) (h : isLs hp L mc ed n) (ha : a < hp.2) (he : hp.1 a = itC (nI j) last mc L) : Ev G l mJ10_checkForComodification (d + 1) 0 0 [.ref a] hp (fun v hp1 => v = none ∧ hp1 = hp) := by
  refine Ev.of (by decide) (Nat.le_of_ble_eq_true rfl) ?_
  refine R_aload_n dJ10_checkForComodification_0 rfl ?_
  refine R_getM dJ10_checkForComodification_1 fm_J10_1_17 ha he (v := .ref L) rfl ?_
  refine R_getM dJ10_checkForComodification_4 fm_J10_17_16 h.1 h.2 (v := .int mc) rfl ?_
  refine R_aload_n dJ10_checkForComodification_7 rfl ?_
  refine R_getM dJ10_checkForComodification_8 fm_J10_22_17 ha he (v := .int mc) rfl ?_
  refine R_icmp_eq 22 dJ10_checkForComodification_11 (by decide) (fun _ => ?_) (fun q => absurd rfl q)
  exact R_vret dJ10_checkForComodification_22 rfl ⟨rfl, rfl⟩
theorem ev_next (d : Nat) {x : Nat} (h : isLs hp L mc ed n) (hr : isRw hp ed cap f) (ha : a < hp.2) (hK : K0 ≤ a) (hne : ed ≠ a) (he : hp.1 a = itC (nI j) last mc L) (hj : j < n) (hn : n ≤ cap) (hc : cap ≤ 1000) (hx : f j = some x) : Ev G l mJ10_next (d + 2) 0 0 [.ref a] hp (fun v hp1 => v = some (.ref x) ∧ hp1 = hset hp a (itC (nI (j + 1)) (nI j) mc L)) := by
  refine Ev.of (by decide) (Nat.le_of_ble_eq_true rfl) ?_
  refine R_aload_n dJ10_next_0 rfl ?_
  refine R_callV (As := []) dJ10_next_1 cv_J10_31 rfl rfl (Nat.le_of_ble_eq_true rfl) ha he rfl (ev_check d h ha he) (Nat.zero_le _) (Nat.zero_le _) (fun v hp1 hq => ?_)
  obtain ⟨rfl, rfl⟩ := hq
  refine R_aload_n dJ10_next_4 rfl ?_
  refine R_getM dJ10_next_5 fm_J10_25_17 ha he (v := .int (nI j)) rfl ?_
  refine R_istore_n dJ10_next_8 (by decide) rfl ?_
  refine R_iload_n dJ10_next_9 rfl ?_
  refine R_aload_n dJ10_next_10 rfl ?_
  refine R_getM dJ10_next_11 fm_J10_1_17 ha he (v := .ref L) rfl ?_
  refine R_getM dJ10_next_14 fm_J10_28_16 h.1 h.2 (v := .int (nI n)) rfl ?_
  refine R_icmp_lt 28 dJ10_next_17 (by decide) (fun _ => ?_) (fun q => absurd (nI_lt hj (by omega)) q)
  refine R_aload_n dJ10_next_28 rfl ?_
  refine R_getM dJ10_next_29 fm_J10_1_17 ha he (v := .ref L) rfl ?_
  refine R_getM dJ10_next_32 fm_J10_37_16 h.1 h.2 (v := .ref ed) rfl ?_
  refine R_astore_n dJ10_next_35 (by decide) rfl ?_
  refine R_iload_n dJ10_next_36 rfl ?_
  refine R_aload_n dJ10_next_37 rfl ?_
  refine R_alen dJ10_next_38 (t := 4) (by decide) hr.1 hr.2 ?_
  refine R_icmp_lt 50 dJ10_next_39 (by decide) (fun _ => ?_) (fun q => absurd (nI_lt (show j < cap by omega) (by omega)) q)
  refine R_aload_n dJ10_next_50 rfl ?_
  refine R_iload_n dJ10_next_51 rfl ?_
  refine R_iconst (v := 1) dJ10_next_52 (by decide) ?_
  refine R_iadd dJ10_next_53 ?_
  rw [nI_1]
  refine R_putM dJ10_next_54 fm_J10_25_17 ft_17_0 rfl rfl ha hK he (Nat.le_of_ble_eq_true rfl) ?_
  refine R_aload_n dJ10_next_57 rfl ?_
  refine R_aload_n dJ10_next_58 rfl ?_
  refine R_iload_n dJ10_next_59 rfl ?_
  refine R_dup_x1 dJ10_next_60 rfl rfl ?_
  refine R_putM dJ10_next_61 fm_J10_13_17 ft_17_1 rfl rfl ha hK hsS (Nat.le_of_ble_eq_true rfl) ?_
  rw [hss]
  refine R_aald dJ10_next_64 (t := 4) rfl hr.1 (by rw [hsN hne]; exact hr.2) (vin (show j < cap by omega) (by omega)) ?_
  rw [cl (by omega), hx]
  exact R_aret dJ10_next_65 rfl (Or.inl ⟨_, rfl⟩) (Or.inr ⟨_, rfl⟩) ⟨rfl, rfl⟩
end L6
