/-! FOUNDATION 4: null, casts, statics, texts, further calls -/
set_option maxRecDepth 100000
def sj_max (v0 v1 : Int32) : Int32 := if v0 < v1 then v1 else v0
def sj_min (v0 v1 : Int32) : Int32 := if v1 < v0 then v1 else v0
def sj_abs (v0 : Int32) : Int32 := if 0 ≤ v0 then v0 else 0 - v0
section More2
variable {hh : List (Nat × Nat × Nat × Nat)} {G : Wd} {l : Launch} {M : MD} {d : Nat} {P : Option Value → Hp → Prop} {X : Nat → Hp → Prop} {pc : Nat} {ls st : List Value} {hp : Hp} {c k : Nat} {H : Heap}
theorem R_ifnn {a : Nat} {off : Int} (tgt : Nat) (hd : decode M.2.1 pc = .ok (.ifnonnull off, 3)) (ht : (pc : Int) + off = (tgt : Int)) (kk : RnH hh G l M d P X tgt ls st hp c k) : RnH hh G l M d P X pc ls (.ref a :: st) hp c k := by
  intro p e s m args below meth cd mc ms H locs cells slots la C g S L h1 h2
  exact lv_ifnonnull C.1 C.2.1 hd ht (kk p e s m args below meth cd mc ms H locs cells slots la C g S L h1 h2)
theorem R_ifnnN {off : Int} (hd : decode M.2.1 pc = .ok (.ifnonnull off, 3)) (kk : RnH hh G l M d P X (pc + 3) ls st hp c k) : RnH hh G l M d P X pc ls (.null :: st) hp c k := by
  intro p e s m args below meth cd mc ms H locs cells slots la C g S L h1 h2
  exact lv_ifnonnullN C.1 C.2.1 hd (kk p e s m args below meth cd mc ms H locs cells slots la C g S L h1 h2)
theorem R_aload_nN {q : Fin 4} (hd : decode M.2.1 pc = .ok (.aload_n q, 1)) (hl : ls[(q : Nat)]? = some .null) (kk : RnH hh G l M d P X (pc + 1) ls (.null :: st) hp c k) : RnH hh G l M d P X pc ls st hp c k := by
  intro p e s m args below meth cd mc ms H locs cells slots la C g S L h1 h2
  exact lv_aload_nN C.1 C.2.1 hd rfl (lvL_get L hl rfl) (kk p e s m args below meth cd mc ms H locs cells slots la C g S L h1 h2)
/-- null or a reference -/
def isRv (v : Value) : Prop := v = .null ∨ ∃ a, v = .ref a
theorem R_aload_nV {q : Fin 4} {v : Value} (hv : isRv v) (hd : decode M.2.1 pc = .ok (.aload_n q, 1)) (hl : ls[(q : Nat)]? = some v) (kk : RnH hh G l M d P X (pc + 1) ls (v :: st) hp c k) : RnH hh G l M d P X pc ls st hp c k := by
  rcases hv with rfl | ⟨a, rfl⟩
  · exact R_aload_nN hd hl kk
  · exact R_aload_n hd hl kk
/-- the reference x as one that may be null -/
def rfO (v : Value) : Option Nat := match v with
  | .ref a => some a
  | _ => none
theorem R_acmp_ne {x y : Value} {off : Int} (hx : isRv x) (hy : isRv y) (hxy : ∀ a b, x = .ref a → y = .ref b → G.1 a = G.1 b → a = b) (tgt : Nat) (hd : decode M.2.1 pc = .ok (.if_acmp .ne off, 3)) (ht : (pc : Int) + off = (tgt : Int)) (kt : ¬ x = y → RnH hh G l M d P X tgt ls st hp c k) (kf : x = y → RnH hh G l M d P X (pc + 3) ls st hp c k) : RnH hh G l M d P X pc ls (y :: x :: st) hp c k := by
  intro p e s m args below meth cd mc ms H locs cells slots la C g S L h1 h2
  have ex : cv G x = va_rf ((rfO x).map G.1) := by rcases hx with rfl | ⟨a, rfl⟩ <;> rfl
  have ey : cv G y = va_rf ((rfO y).map G.1) := by rcases hy with rfl | ⟨a, rfl⟩ <;> rfl
  have hiff : (rfO x).map G.1 = (rfO y).map G.1 ↔ x = y := by
    constructor
    · intro h
      rcases hx with rfl | ⟨a, rfl⟩
      · rcases hy with rfl | ⟨b, rfl⟩
        · rfl
        · cases h
      · rcases hy with rfl | ⟨b, rfl⟩
        · cases h
        · have h' : G.1 a = G.1 b := Option.some.inj h
          rw [hxy a b rfl rfl h']
    · intro h; rw [h]
  show W p l e _ s m args below meth cd H locs cells slots _ (F0 m pc la (cv G y :: cv G x :: st.map (cv G)))
  rw [ex, ey]
  exact lv_acmp_ne C.1 C.2.1 hd ht (fun q => kt (fun z => q (hiff.mpr z)) p e s m args below meth cd mc ms H locs cells slots la C g S L h1 h2) (fun q => kf (hiff.mp q) p e s m args below meth cd mc ms H locs cells slots la C g S L h1 h2)
theorem R_cast {index a ci : Nat} {fs : List Value} {E nm : String} (hd : decode M.2.1 pc = .ok (.checkcast index, 3)) (hcl : (clA[ci]?).map (fun q => q.1) = some E) (hq : Cond.classLink M.1.cls index nm ∈ lw_all) (hc : E = nm ∨ Cond.castable E nm ∈ lw_tbl) (ha : a < hp.2) (he : hp.1 a = .inr (ci, fs)) (kk : RnH hh G l M d P X (pc + 3) ls (.ref a :: st) hp c k) : RnH hh G l M d P X pc ls (.ref a :: st) hp c k := by
  intro p e s m args below meth cd mc ms H locs cells slots la C g S L h1 h2
  obtain ⟨C9, hC9, hC8⟩ : ∃ C9, clA[ci]? = some C9 ∧ C9.1 = E := by
    cases h9 : clA[ci]? with
    | none => rw [h9] at hcl; cases hcl
    | some q => rw [h9] at hcl; exact ⟨q, rfl, by simpa using hcl⟩
  have hrec := va_recv C.2.2.2.2.2.2.2.1.2.1 (g.one ha he (ne_c hC9)) hC9 (q0 := 0) rfl
  rw [hC8] at hrec
  have h3 := kk p e s m args below meth cd mc ms H locs cells slots la C g S L h1 h2
  rcases hc with rfl | hc
  · exact va_castE C.1 C.2.1 C.2.2.2.2.2.1 (C.2.2.2.2.2.2.1 _ hq) hrec hd h3
  · exact va_castY C.1 C.2.1 C.2.2.2.2.2.1 (C.2.2.2.2.2.2.1 _ hq) (C.2.2.2.2.2.2.2.1.2.2.1.1 _ hc rfl) hrec hd h3
theorem R_castN {index : Nat} (hd : decode M.2.1 pc = .ok (.checkcast index, 3)) (kk : RnH hh G l M d P X (pc + 3) ls (.null :: st) hp c k) : RnH hh G l M d P X pc ls (.null :: st) hp c k := by
  intro p e s m args below meth cd mc ms H locs cells slots la C g S L h1 h2
  exact lv_castN C.1 C.2.1 hd (kk p e s m args below meth cd mc ms H locs cells slots la C g S L h1 h2)
/-! statics: the empty row, KEPT, NAMED -/
theorem R_getsE {index : Nat} (hd : decode M.2.1 pc = .ok (.getstatic index, 3)) (hq : Cond.fieldLink M.1.cls index "java/util/ArrayList" "DEFAULTCAPACITY_EMPTY_ELEMENTDATA" "[Ljava/lang/Object;" ∈ lw_all) (kk : RnH hh G l M d P X (pc + 3) ls (.ref 1 :: st) hp c k) : RnH hh G l M d P X pc ls st hp c k := by
  intro p e s m args below meth cd mc ms H locs cells slots la C g S L h1 h2
  exact va_gets C.1 C.2.1 (C.2.2.2.2.2.2.2.1.2.2.1.2.2.2.2.2.1.1) S C.2.2.2.2.2.1 (C.2.2.2.2.2.2.1 _ hq) (fun _ h => h) hd (kk p e s m args below meth cd mc ms H locs cells slots la C g S L h1 h2)
theorem R_getsT {index w : Nat} (hw : w < 2) (hd : decode M.2.1 pc = .ok (.getstatic index, 3)) (hq : Cond.fieldLink M.1.cls index "TailorRegiment$Reader" (if w = 0 then "KEPT" else "NAMED") "[Ljava/lang/String;" ∈ lw_all) (kk : RnH hh G l M d P X (pc + 3) ls (.ref (2 + w) :: st) hp c k) : RnH hh G l M d P X pc ls st hp c k := by
  intro p e s m args below meth cd mc ms H locs cells slots la C g S L h1 h2
  have h3 := kk p e s m args below meth cd mc ms H locs cells slots la C g S L h1 h2
  match w, hw with
  | 0, _ => exact va_gets C.1 C.2.1 (C.2.2.2.2.2.2.2.1.2.2.1.2.2.2.2.2.2.1.1) S C.2.2.2.2.2.1 (C.2.2.2.2.2.2.1 _ hq) (fun _ h => h) hd h3
  | 1, _ => exact va_gets C.1 C.2.1 (C.2.2.2.2.2.2.2.1.2.2.1.2.2.2.2.2.2.2.1.1) S C.2.2.2.2.2.1 (C.2.2.2.2.2.2.1 _ hq) (fun _ h => h) hd h3
theorem R_ldcS {index i : Nat} {tx : String} (hd : decode M.2.1 pc = .ok (.ldc index, 2)) (hq : (M.1.cls, index, tx, i) ∈ ldS) (kk : RnH hh G l M d P X (pc + 2) ls (.ref (4 + 2 * i) :: st) hp c k) : RnH hh G l M d P X pc ls st hp c k := by
  intro p e s m args below meth cd mc ms H locs cells slots la C g S L h1 h2
  exact va_ldcS C.1 C.2.1 C.2.2.2.2.2.1 (C.2.2.2.2.2.2.2.1.2.2.1.2.2.2.2.2.2.2.2.2.2.1 _ hq) hd (kk p e s m args below meth cd mc ms H locs cells slots la C g S L h1 h2)
/-! the script (place 0) -/
theorem R_scr {i : Int32} (hd : decode M.2.1 pc = .ok (.iaload, 1)) (hin : vp_in i G.2.2.2.1) (kk : RnH hh G l M d P X (pc + 1) ls (.int (G.2.2.2.2 i.toNatClampNeg) :: st) hp c k) : RnH hh G l M d P X pc ls (.int i :: .ref 0 :: st) hp c k := by
  intro p e s m args below meth cd mc ms H locs cells slots la C g S L h1 h2
  have hX := C.2.2.2.2.2.2.2.1.2.2.1.2.2.2.2.1
  have hW0 := C.2.2.2.2.2.2.2.1.1.2.2 0 (by decide)
  exact va_sld C.1 C.2.1 hX (Nat.lt_of_lt_of_le hW0 C.2.2.2.2.2.2.2.1.2.2.2) (fun q => by unfold aA at q; omega) S hin hd (kk p e s m args below meth cd mc ms H locs cells slots la C g S L h1 h2)
theorem R_scrLen (hd : decode M.2.1 pc = .ok (.arraylength, 1)) (kk : RnH hh G l M d P X (pc + 1) ls (.int (nI G.2.2.2.1) :: st) hp c k) : RnH hh G l M d P X pc ls (.ref 0 :: st) hp c k := by
  intro p e s m args below meth cd mc ms H locs cells slots la C g S L h1 h2
  have hX := C.2.2.2.2.2.2.2.1.2.2.1.2.2.2.2.1
  have hW0 := C.2.2.2.2.2.2.2.1.1.2.2 0 (by decide)
  exact va_slen C.1 C.2.1 hX (Nat.lt_of_lt_of_le hW0 C.2.2.2.2.2.2.2.1.2.2.2) (fun q => by unfold aA at q; omega) S hd (kk p e s m args below meth cd mc ms H locs cells slots la C g S L h1 h2)
/-! calls of nest mates -/
def CSN (own : String) (index : Nat) (N : MD) (n : Nat) : Prop := (∃ host, Cond.methodLinkNest own index N.1 host ∈ lw_tbl) ∧ Cond.static N.1 ∈ lw_all ∧ Cond.initialized N.1.cls ∈ lw_all ∧ Cond.code N.1 N.2.1 N.2.2.1 N.2.2.2 ∈ lw_all ∧ okN N n
def CVN (own : String) (index : Nat) (N : MD) (n : Nat) : Prop := (∃ host, Cond.methodLinkNest own index N.1 host ∈ lw_tbl) ∧ Cond.instanceMethod N.1 ∈ lw_all ∧ Cond.selects N.1.cls N.1 N.1 ∈ lw_all ∧ Cond.initialized N.1.cls ∈ lw_all ∧ Cond.code N.1 N.2.1 N.2.2.1 N.2.2.2 ∈ lw_all ∧ okN N n
def CIN (own : String) (index : Nat) (N : MD) (n : Nat) : Prop := (∃ host, Cond.methodLinkNest own index N.1 host ∈ lw_tbl) ∧ Cond.instanceMethod N.1 ∈ lw_all ∧ Cond.initialized N.1.cls ∈ lw_all ∧ Cond.code N.1 N.2.1 N.2.2.1 N.2.2.2 ∈ lw_all ∧ (N.1.name = "<init>" ∧ N.2.2.2 = none) ∧ okN N n
theorem ws_good {y : MethodName} {cc : ByteArray} {n : Nat} {r : Option FieldType} (h : Cond.code y cc n r ∈ lw_all) : GoodIn lw_all (ws_ y cc n r) := lw_meth h
theorem R_callSN {index n c1 k1 : Nat} {N : MD} {As rest : List Value} {Q1 : Option Value → Hp → Prop} (hd : decode M.2.1 pc = .ok (.invokestatic index, 3)) (hc : CSN M.1.cls index N n) (hst : st = As.reverse ++ rest) (hn : As.length = n) (hw : (rest.map Value.category).sum ≤ 8) (hev : Ev G l N d c1 k1 As hp Q1) (hcc : c1 ≤ c) (hkk : k1 ≤ k)
    (kk : ∀ v hp1, Q1 v hp1 → RnH hh G l M (d + 1) P X (pc + 3) ls (v.toList ++ rest) hp1 (c - c1) (k - k1)) : RnH hh G l M (d + 1) P X pc ls st hp c k := by
  intro p e s m args below meth cd mc ms H locs cells slots la C g S L h1 h2
  obtain ⟨⟨host, q1⟩, q2, q3, q4, q5, q6⟩ := hc
  have hts := C.2.2.2.2.2.2.1
  refine run_go (va_runSN (As := As.map (cv G)) (rest := rest.map (cv G)) (Ts := lw_all) ⟨C.1, C.2.1, C.2.2.1, C.2.2.2.2.2.1, hts⟩ hev ⟨va_cnB n hts (ws_good q4) rfl rfl rfl (C.2.2.2.2.2.2.2.1.2.2.1.1 _ q1 rfl) (hts _ q3) q5 ⟨Nat.le_refl _, by show 8 + (N.2.2.1 + 11) + 100 * d ≤ 100 * (d + 1); omega⟩, hts _ q2, trivial⟩
    ⟨blind _, fun U hU hW => ⟨rfl, GoodS.move C.2.2.2.2.2.2.2.1 hW (by rw [hU]; exact S), by rw [hU]; exact g⟩⟩ rfl (by rw [List.length_map]; exact hn) L.1 (by show st.map (cv G) = _; rw [hst, List.map_append, List.map_reverse]) (cat_map rest hw) hd ⟨by show cells + c1 ≤ mc; omega, by show slots + k1 ≤ ms; omega⟩) S (fun v hp1 H1 locs1 hq g1 S1 => ?_)
  have h3 := kk v hp1 hq p e s m args below meth cd mc ms H1 locs1 (cells + c1) (slots + k1) la C g1 S1 L (by omega) (by omega)
  rw [List.map_append] at h3
  have e3 : v.toList.map (cv G) = (v.map (cv G)).toList := by cases v <;> rfl
  rw [e3] at h3
  exact h3
theorem recvM {ci a : Nat} {fs : List Value} {s : State} {locs : List Loc} {E : String} (hK : va_K G.2.1 clA (tysA G) s) (g : GoodP G hp H) (ha : a < hp.2) (he : hp.1 a = .inr (ci, fs)) (hcl : (clA[ci]?).map (fun q => q.1) = some E) : ∃ cell : Cell, H[G.1 a]? = some cell ∧ cell.vm.isStatics = false ∧ s.vm.findClass E = some cell.cls := by
  obtain ⟨C9, hC9, hC8⟩ : ∃ C9, clA[ci]? = some C9 ∧ C9.1 = E := by
    cases h9 : clA[ci]? with
    | none => rw [h9] at hcl; cases hcl
    | some q => rw [h9] at hcl; exact ⟨q, rfl, by simpa using hcl⟩
  have hrec := va_recv hK (g.one ha he (ne_c hC9)) hC9 (q0 := 0) rfl
  rw [hC8] at hrec
  exact hrec
theorem R_callVN {index n c1 k1 a ci : Nat} {fs : List Value} {N : MD} {As rest : List Value} {Q1 : Option Value → Hp → Prop} (hd : decode M.2.1 pc = .ok (.invokevirtual index, 3)) (hc : CVN M.1.cls index N n) (hst : st = As.reverse ++ .ref a :: rest) (hn : As.length = n) (hw : (rest.map Value.category).sum ≤ 8) (ha : a < hp.2) (he : hp.1 a = .inr (ci, fs)) (hcl : (clA[ci]?).map (fun q => q.1) = some N.1.cls) (hev : Ev G l N d c1 k1 (.ref a :: As) hp Q1) (hcc : c1 ≤ c) (hkk : k1 ≤ k)
    (kk : ∀ v hp1, Q1 v hp1 → RnH hh G l M (d + 1) P X (pc + 3) ls (v.toList ++ rest) hp1 (c - c1) (k - k1)) : RnH hh G l M (d + 1) P X pc ls st hp c k := by
  intro p e s m args below meth cd mc ms H locs cells slots la C g S L h1 h2
  obtain ⟨⟨host, q1⟩, q2, q3, q4, q5, q6, q7⟩ := hc
  have hts := C.2.2.2.2.2.2.1
  refine run_go (va_runVN (As := As.map (cv G)) (rest := rest.map (cv G)) (b := G.1 a) (C := N.1.cls) (Ts := lw_all) ⟨C.1, C.2.1, C.2.2.1, C.2.2.2.2.2.1, hts⟩ hev ⟨va_cnB n hts (ws_good q5) rfl rfl rfl (C.2.2.2.2.2.2.2.1.2.2.1.1 _ q1 rfl) (hts _ q4) q6 ⟨Nat.le_refl _, by show 8 + (N.2.2.1 + 11) + 100 * d ≤ 100 * (d + 1); omega⟩, hts _ q2, hts _ q3⟩
    ⟨blind _, recvM (locs := locs) C.2.2.2.2.2.2.2.1.2.1 g ha he hcl, fun U hU hW => ⟨rfl, GoodS.move C.2.2.2.2.2.2.2.1 hW (by rw [hU]; exact S), by rw [hU]; exact g⟩⟩ rfl (by rw [List.length_map]; exact hn) L.1 (by show st.map (cv G) = _; rw [hst, List.map_append, List.map_reverse]; rfl) (cat_map rest hw) hd ⟨by show cells + c1 ≤ mc; omega, by show slots + k1 ≤ ms; omega⟩) S (fun v hp1 H1 locs1 hq g1 S1 => ?_)
  have h3 := kk v hp1 hq p e s m args below meth cd mc ms H1 locs1 (cells + c1) (slots + k1) la C g1 S1 L (by omega) (by omega)
  rw [List.map_append] at h3
  have e3 : v.toList.map (cv G) = (v.map (cv G)).toList := by cases v <;> rfl
  rw [e3] at h3
  exact h3
theorem R_callIN {index n c1 k1 a : Nat} {N : MD} {As rest : List Value} {Q1 : Option Value → Hp → Prop} (hd : decode M.2.1 pc = .ok (.invokespecial index, 3)) (hc : CIN M.1.cls index N n) (hst : st = As.reverse ++ .ref a :: rest) (hn : As.length = n) (hw : (rest.map Value.category).sum ≤ 8) (hev : Ev G l N d c1 k1 (.ref a :: As) hp Q1) (hcc : c1 ≤ c) (hkk : k1 ≤ k)
    (kk : ∀ v hp1, Q1 v hp1 → RnH hh G l M (d + 1) P X (pc + 3) ls (v.toList ++ rest) hp1 (c - c1) (k - k1)) : RnH hh G l M (d + 1) P X pc ls st hp c k := by
  intro p e s m args below meth cd mc ms H locs cells slots la C g S L h1 h2
  obtain ⟨⟨host, q1⟩, q2, q4, q5, ⟨q8, q9⟩, q6, q7⟩ := hc
  have hts := C.2.2.2.2.2.2.1
  obtain ⟨y, cc, mL, rt⟩ := N
  cases q9
  refine run_go (va_runIN (As := As.map (cv G)) (rest := rest.map (cv G)) (b := G.1 a) (Ts := lw_all) ⟨C.1, C.2.1, C.2.2.1, C.2.2.2.2.2.1, hts⟩ hev ⟨va_cnB n hts (ws_good q5) rfl rfl rfl (C.2.2.2.2.2.2.2.1.2.2.1.1 _ q1 rfl) (hts _ q4) q6 ⟨Nat.le_refl _, by show 8 + (mL + 11) + 100 * d ≤ 100 * (d + 1); have : mL ≤ 81 := q7; omega⟩, q8, hts _ q2⟩
    ⟨blind _, fun U hU hW => ⟨rfl, GoodS.move C.2.2.2.2.2.2.2.1 hW (by rw [hU]; exact S), by rw [hU]; exact g⟩⟩ rfl (by rw [List.length_map]; exact hn) L.1 (by show st.map (cv G) = _; rw [hst, List.map_append, List.map_reverse]; rfl) (cat_map rest hw) hd ⟨by show cells + c1 ≤ mc; omega, by show slots + k1 ≤ ms; omega⟩) S (fun v hp1 H1 locs1 hq g1 S1 => ?_)
  have h3 := kk v hp1 hq p e s m args below meth cd mc ms H1 locs1 (cells + c1) (slots + k1) la C g1 S1 L (by omega) (by omega)
  rw [List.map_append] at h3
  have e3 : v.toList.map (cv G) = (v.map (cv G)).toList := by cases v <;> rfl
  rw [e3] at h3
  exact h3
/-- a call by another name: x is named, N is run (inherited, or abstract), through an object of the class E -/
def CU (own : String) (index : Nat) (E : String) (x : MethodName) (N : MD) (n : Nat) : Prop := ∃ owner, Cond.methodLink own index x ∈ lw_all ∧ Cond.sameMethod x.cls owner x.name x.desc ∈ lw_all ∧ Cond.selects E x N.1 ∈ lw_all ∧ Cond.instanceMethod N.1 ∈ lw_all ∧ Cond.initialized N.1.cls ∈ lw_all ∧ Cond.code N.1 N.2.1 N.2.2.1 N.2.2.2 ∈ lw_all ∧ Cond.declares ⟨owner, x.name, x.desc⟩ ∈ lw_tbl ∧ (owner ≠ "java/lang/invoke/MethodHandle" ∧ owner ≠ "java/lang/invoke/VarHandle" ∧ (parseMethodDescriptor x.desc).map (fun d => d.parameters.length) = some n) ∧ N.2.2.1 ≤ 81
theorem R_callU {index n c1 k1 a ci : Nat} {fs : List Value} {E : String} {x : MethodName} {N : MD} {As rest : List Value} {Q1 : Option Value → Hp → Prop} (hd : decode M.2.1 pc = .ok (.invokevirtual index, 3)) (hc : CU M.1.cls index E x N n) (hst : st = As.reverse ++ .ref a :: rest) (hn : As.length = n) (hw : (rest.map Value.category).sum ≤ 8) (ha : a < hp.2) (he : hp.1 a = .inr (ci, fs)) (hcl : (clA[ci]?).map (fun q => q.1) = some E) (hev : Ev G l N d c1 k1 (.ref a :: As) hp Q1) (hcc : c1 ≤ c) (hkk : k1 ≤ k)
    (kk : ∀ v hp1, Q1 v hp1 → RnH hh G l M (d + 1) P X (pc + 3) ls (v.toList ++ rest) hp1 (c - c1) (k - k1)) : RnH hh G l M (d + 1) P X pc ls st hp c k := by
  intro p e s m args below meth cd mc ms H locs cells slots la C g S L h1 h2
  obtain ⟨owner, q1, q2, q3, q4, q5, q6, q7, q8, q9⟩ := hc
  have hts := C.2.2.2.2.2.2.1
  have hG : GoodIn lw_all (va_wsU M.1.cls index E owner x N.1 (ws_ N.1 N.2.1 N.2.2.1 N.2.2.2)) := by
    refine lw_app (fun w h => ?_) (ws_good q6)
    simp only [List.mem_cons, List.not_mem_nil, or_false] at h
    rcases h with rfl | rfl | rfl | rfl | rfl
    · exact q1
    · exact q2
    · exact q3
    · exact q4
    · exact q5
  refine run_go (va_runU (As := As.map (cv G)) (rest := rest.map (cv G)) (b := G.1 a) (C := E) (owner := owner) (Ts := lw_all) ⟨C.1, C.2.1, C.2.2.1, C.2.2.2.2.2.1, hts⟩ hev (va_cwA n hts hG rfl rfl rfl (C.2.2.2.2.2.2.2.1.2.2.1.1 _ q7 rfl) q8 ⟨Nat.le_refl _, by show 8 + (N.2.2.1 + 11) + 100 * d ≤ 100 * (d + 1); omega⟩)
    ⟨blind _, recvM (locs := locs) C.2.2.2.2.2.2.2.1.2.1 g ha he hcl, fun U hU hW => ⟨rfl, GoodS.move C.2.2.2.2.2.2.2.1 hW (by rw [hU]; exact S), by rw [hU]; exact g⟩⟩ rfl (by rw [List.length_map]; exact hn) L.1 (by show st.map (cv G) = _; rw [hst, List.map_append, List.map_reverse]; rfl) (cat_map rest hw) hd ⟨by show cells + c1 ≤ mc; omega, by show slots + k1 ≤ ms; omega⟩) S (fun v hp1 H1 locs1 hq g1 S1 => ?_)
  have h3 := kk v hp1 hq p e s m args below meth cd mc ms H1 locs1 (cells + c1) (slots + k1) la C g1 S1 L (by omega) (by omega)
  rw [List.map_append] at h3
  have e3 : v.toList.map (cv G) = (v.map (cv G)).toList := by cases v <;> rfl
  rw [e3] at h3
  exact h3
theorem R_mmax {index : Nat} {x y : Int32} (hd : decode M.2.1 pc = .ok (.invokestatic index, 3)) (hq : Cond.methodLink M.1.cls index Lib.Math.max.name ∈ lw_all) (hw : (st.map Value.category).sum ≤ 8) (kk : RnH hh G l M (d + 1) P X (pc + 3) ls (.int (sj_max x y) :: st) hp c k) : RnH hh G l M (d + 1) P X pc ls (.int y :: .int x :: st) hp c k := by
  intro p e s m args below meth cd mc ms H locs cells slots la C g S L h1 h2
  have hts := C.2.2.2.2.2.2.1
  have hcat := cat_map (G := G) (m := m) (pc := pc) (la := la) (st0 := []) st hw
  have hz2 : (F0 m pc la ([] : List Value)).monitorRoom = 0 := rfl
  rw [hz2] at hcat
  exact va_mmax C.1 C.2.1 (C.2.2.1.trans L.1.symm) C.2.2.2.2.2.1 (hts _ hq) (hts _ q823) (hts _ q138) (hts _ q824) (by show 1 ≤ d + 1; omega) (by show _ + 13 ≤ 100 * (d + 1); omega) (by show cells ≤ mc; omega) (by show slots ≤ ms; omega) hd (kk p e s m args below meth cd mc ms H locs cells slots la C g S L h1 h2)
theorem R_mmin {index : Nat} {x y : Int32} (hd : decode M.2.1 pc = .ok (.invokestatic index, 3)) (hq : Cond.methodLink M.1.cls index Lib.Math.min.name ∈ lw_all) (hw : (st.map Value.category).sum ≤ 8) (kk : RnH hh G l M (d + 1) P X (pc + 3) ls (.int (sj_min x y) :: st) hp c k) : RnH hh G l M (d + 1) P X pc ls (.int y :: .int x :: st) hp c k := by
  intro p e s m args below meth cd mc ms H locs cells slots la C g S L h1 h2
  have hts := C.2.2.2.2.2.2.1
  have hcat := cat_map (G := G) (m := m) (pc := pc) (la := la) (st0 := []) st hw
  have hz2 : (F0 m pc la ([] : List Value)).monitorRoom = 0 := rfl
  rw [hz2] at hcat
  exact va_mmin C.1 C.2.1 (C.2.2.1.trans L.1.symm) C.2.2.2.2.2.1 (hts _ hq) (hts _ q861) (hts _ q138) (hts _ q862) (by show 1 ≤ d + 1; omega) (by show _ + 13 ≤ 100 * (d + 1); omega) (by show cells ≤ mc; omega) (by show slots ≤ ms; omega) hd (kk p e s m args below meth cd mc ms H locs cells slots la C g S L h1 h2)
theorem R_mabs {index : Nat} {x : Int32} (hd : decode M.2.1 pc = .ok (.invokestatic index, 3)) (hq : Cond.methodLink M.1.cls index Lib.Math.abs.name ∈ lw_all) (hw : (st.map Value.category).sum ≤ 8) (kk : RnH hh G l M (d + 1) P X (pc + 3) ls (.int (sj_abs x) :: st) hp c k) : RnH hh G l M (d + 1) P X pc ls (.int x :: st) hp c k := by
  intro p e s m args below meth cd mc ms H locs cells slots la C g S L h1 h2
  have hts := C.2.2.2.2.2.2.1
  have hcat := cat_map (G := G) (m := m) (pc := pc) (la := la) (st0 := []) st hw
  have hz2 : (F0 m pc la ([] : List Value)).monitorRoom = 0 := rfl
  rw [hz2] at hcat
  exact va_mabs C.1 C.2.1 (C.2.2.1.trans L.1.symm) C.2.2.2.2.2.1 (hts _ hq) (hts _ q1260) (hts _ q138) (hts _ q1261) (by show 1 ≤ d + 1; omega) (by show _ + 13 ≤ 100 * (d + 1); omega) (by show cells ≤ mc; omega) (by show slots ≤ ms; omega) hd (kk p e s m args below meth cd mc ms H locs cells slots la C g S L h1 h2)
end More2
