/-! FOUNDATION 3: nest mates and inherited fields, rows of references, casts, statics, texts, copies, further calls -/
set_option maxRecDepth 100000
/-- the constant pool's entry index of own is the field fk of the class ci: its own, a nest mate's, an inherited one -/
def Fm (own : String) (index ci fk : Nat) : Prop := ∃ (C : String) (T : u_T) (N : Nat) (ref : String), clA[ci]? = some (C, T, N) ∧ fk < N ∧ (∀ w ∈ u_ws C T N, w ∈ lw_all) ∧ (Cond.fieldLink own index ref (T fk).2.1 (T fk).2.2.1 ∈ lw_all ∨ ∃ host, Cond.fieldLinkNest own index ref (T fk).2.1 (T fk).2.2.1 host ∈ lw_tbl) ∧ (ref = (T fk).1 ∨ Cond.sameField ref (T fk).1 (T fk).2.1 (T fk).2.2.1 ∈ lw_all)
/-- a class's fields: of different names, or final ones of different classes -/
def apN (T : u_T) (N : Nat) : Prop := ∀ a, a < N → ∀ b, b < N → a ≠ b → (T a).2.1 ≠ (T b).2.1 ∨ ((T a).2.2.2 = true ∧ (T b).2.2.2 = true ∧ (T a).1 ≠ (T b).1)
theorem apN_nm {T : u_T} {N : Nat} (h : ∀ a, a < N → ∀ b, b < N → a ≠ b → (T a).2.1 ≠ (T b).2.1) : apN T N := fun a ha b hb hn => Or.inl (h a ha b hb hn)
/-- the field's type is known -/
def Fu (ci fk : Nat) (ty : FieldType) (fin : Bool) : Prop := ∃ (C : String) (T : u_T) (N : Nat) (ty0 : Nat → FieldType), clA[ci]? = some (C, T, N) ∧ (∀ j, j < N → parseFieldDescriptor (T j).2.2.1 = some (ty0 j)) ∧ apN T N ∧ parseFieldDescriptor (T fk).2.2.1 = some ty ∧ (T fk).2.2.2 = fin
theorem fin_spot {args : Array Value} {s : State} {C : String} {T : u_T} {N x : Nat} {Ts : List Cond} (hts : ∀ w ∈ Ts, w.before args s = true) (hin : ∀ w ∈ u_ws C T N, w ∈ Ts) (hx : x < N) (h1 : (T x).2.2.2 = true) {cf kf fi : Nat} {k9 : Class} {fa : Field} (hia : s.fieldFound? (T x).1 (T x).2.1 (T x).2.2.1 = some (cf, k9, fi, fa)) : ∃ c d, s.vm.findClass C = some c ∧ Jmm.declares? s.vm fa.slot (c + 1) c = some d ∧ d.1.name = (T x).1 := by
  have l1 := hts _ (hin _ (u_in_lay hx))
  unfold u_lay at l1
  rw [if_pos h1] at l1
  obtain ⟨c, k, c', k', i, f, p1, p2, p3, p4, p5, p6, p7, p8, d, p9, p10, p11, p12⟩ := Cond.laysFinal_spec l1
  cases hia.symm.trans p3
  refine ⟨c, d, p1, p9, p10.trans ?_⟩
  have hk := State.fieldFound?_class hia
  obtain ⟨kE, hkE, hnE⟩ := Vm.findClass_spec p7
  cases hk.symm.trans hkE
  exact hnE
theorem apart2 {args : Array Value} {s : State} {D : va_G} {tys : List (ClassId × FieldType)} {C : String} {T : u_T} {N ci : Nat} {Ts : List Cond} (hts : ∀ w ∈ Ts, w.before args s = true) (hin : ∀ w ∈ u_ws C T N, w ∈ Ts) (ty : Nat → FieldType) (hty : ∀ k, k < N → parseFieldDescriptor (T k).2.2.1 = some (ty k)) (hnm : apN T N) (hK : va_K D clA tys s) (hc : clA[ci]? = some (C, T, N)) : ∀ x y, x < N → y < N → x ≠ y → (D.2 ci) x ≠ (D.2 ci) y := by
  intro x y hx hy hne
  obtain ⟨hS, -⟩ := hK.1 ci _ hc
  obtain ⟨_, _, _, fa, hia, ea⟩ := hS x hx
  obtain ⟨_, _, _, fb, hib, eb⟩ := hS y hy
  rw [← ea, ← eb]
  rcases hnm x hx y hy hne with h | ⟨h1, h2, h3⟩
  · refine u_apart (u_lays hts hin hx) (u_lays hts hin hy) hia hib ?_
    rw [(State.fieldFound?_type hia (hty x hx)).1, (State.fieldFound?_type hib (hty y hy)).1]
    exact h
  · obtain ⟨c, d, g1, g2, g3⟩ := fin_spot (kf := 0) hts hin hx h1 hia
    obtain ⟨c', d', g1', g2', g3'⟩ := fin_spot (kf := 0) hts hin hy h2 hib
    cases g1.symm.trans g1'
    intro hs
    rw [hs] at g2
    cases g2.symm.trans g2'
    exact h3 (g3.symm.trans g3')
section More
variable {hh : List (Nat × Nat × Nat × Nat)} {G : Wd} {l : Launch} {M : MD} {d : Nat} {P : Option Value → Hp → Prop} {X : Nat → Hp → Prop} {pc : Nat} {ls st : List Value} {hp : Hp} {c k : Nat} {H : Heap}
theorem fm_same {args : Array Value} {s : State} {T : u_T} {fk : Nat} {ref : String} (hts : ∀ w ∈ lw_all, w.before args s = true) (h : ref = (T fk).1 ∨ Cond.sameField ref (T fk).1 (T fk).2.1 (T fk).2.2.1 ∈ lw_all) : ∀ x, s.fieldFound? (T fk).1 (T fk).2.1 (T fk).2.2.1 = some x → s.fieldFound? ref (T fk).2.1 (T fk).2.2.1 = some x := by
  intro x hx
  rcases h with h | h
  · rw [h]; exact hx
  · exact u_same (hts _ h) x hx
theorem R_getM {index ci fk a : Nat} {fs : List Value} {v : Value} (hd : decode M.2.1 pc = .ok (.getfield index, 3)) (hf : Fm M.1.cls index ci fk) (ha : a < hp.2) (he : hp.1 a = .inr (ci, fs)) (hv : fs[fk]? = some v) (kk : RnH hh G l M d P X (pc + 3) ls (v :: st) hp c k) : RnH hh G l M d P X pc ls (.ref a :: st) hp c k := by
  intro p e s m args below meth cd mc ms H locs cells slots la C g S L h1 h2
  obtain ⟨C9, T, N, ref, hcl, hN, hin, hq, hsm⟩ := hf
  have hts := C.2.2.2.2.2.2.1
  rcases hq with hq | ⟨host, hq⟩
  · exact va_get (D := G.2.1) (cl := clA) (ci := ci) (v := cv G v) C.1 C.2.1 hts hin C.2.2.2.2.2.1 C.2.2.2.2.2.2.2.1.2.1 (g.one ha he (ne_c hcl)) 0 rfl hcl fk hN (hts _ hq) (fm_same hts hsm) (by rw [List.getElem?_map, hv]; rfl) hd (kk p e s m args below meth cd mc ms H locs cells slots la C g S L h1 h2)
  · exact va_getN (D := G.2.1) (cl := clA) (ci := ci) (v := cv G v) C.1 C.2.1 hts hin C.2.2.2.2.2.1 C.2.2.2.2.2.2.2.1.2.1 (g.one ha he (ne_c hcl)) 0 rfl hcl fk hN (va_Nw.use rfl (C.2.2.2.2.2.2.2.1.2.2.1.1 _ hq rfl)) (fm_same hts hsm) (by rw [List.getElem?_map, hv]; rfl) hd (kk p e s m args below meth cd mc ms H locs cells slots la C g S L h1 h2)
theorem R_putM {index ci fk a : Nat} {fs : List Value} {v : Value} {ty : FieldType} (hd : decode M.2.1 pc = .ok (.putfield index, 3)) (hf : Fm M.1.cls index ci fk) (ht : Fu ci fk ty false) (hn : narrow ty v = v) (hfit : fits ty v = true) (ha : a < hp.2) (hK : K0 ≤ a) (he : hp.1 a = .inr (ci, fs)) (hl : fk < fs.length) (kk : RnH hh G l M d P X (pc + 3) ls st (hset hp a (.inr (ci, fs.set fk v))) c k) : RnH hh G l M d P X pc ls (v :: .ref a :: st) hp c k := by
  intro p e s m args below meth cd mc ms H locs cells slots la C g S L h1 h2
  obtain ⟨C9, T, N, ref, hcl, hN, hin, hq, hsm⟩ := hf
  obtain ⟨C8, T8, N8, ty0, hcl8, hty, hnm, hdt, hfin⟩ := ht
  cases Option.some.inj (hcl8.symm.trans hcl)
  have hts := C.2.2.2.2.2.2.1
  have hown := C.2.2.2.2.2.1
  have hK0 := C.2.2.2.2.2.2.2.1.2.1
  have W0 := C.2.2.2.2.2.2.2.1.1
  have hap := apart2 hts hin ty0 hty hnm hK0 hcl
  obtain ⟨r, e1, cell, q1, q2, q3, q4⟩ := (g.one ha he (ne_c hcl)) 0 _ rfl
  have hr : r = (C9, T, N) := Option.some.inj (e1.symm.trans hcl)
  subst hr
  obtain ⟨hS, hfc, kC, hkC, hkind⟩ := hK0.1 ci _ hcl
  obtain ⟨cf, kf, fi, f, hi, hsl⟩ := hS fk hN
  have hlay := hts _ (hin _ (u_in_lay hN))
  unfold u_lay at hlay
  rw [if_neg (by rw [hfin]; decide)] at hlay
  have hst := (u_facts hfc hkC (u_lays hts hin hN) hi).1
  have h6 := u_store hfc hkC hkind hlay hi hdt (cv_nar (G := G) hn) (cv_fit (G := G) hfit)
  have fin : ∀ (H' : Heap) (locs' : List Loc), H'[G.1 a]? = some (cell.setSlot f.slot (cv G v)) → H'.size = H.size → (∀ q, q ≠ G.1 a → H'[q]? = H[q]?) → locs' = locs ++ [⟨G.1 a, f.slot⟩] → W p l e { frames := d, cells := mc, slots := ms, locals := 100 * d } s m args below meth cd H' locs' cells slots (xMQ G P X below s mc ms) (F0 m (pc + 3) la (st.map (cv G))) := by
    intro H' locs' e1 e2 e3 e4
    rw [hsl] at e1
    subst e4
    have hv : va_at G.2.1 clA (G.1 a, ce G (.inr (ci, fs.set fk v))) H' := ⟨_, hcl, t_OB.to (V := updV (vp_V (fs.map (cv G))) fk (cv G v)) ⟨_, e1, q2, q3, t_set q4 hap hN (cv G v)⟩ (fun j _ => by rw [vp_updV_set (by rw [List.length_map]; exact hl)]; rw [List.map_set])⟩
    exact kk p e s m args below meth cd mc ms H' _ cells slots la C (g.set W0 hK hv e2 e3) (S.put e2 e3 (aA_of W0 hK)) L h1 h2
  rcases hq with hq | ⟨host, hq⟩
  · exact W.putK C.1 C.2.1 (f := f) ⟨hown, hts _ hq, ⟨_, _, _, fm_same hts hsm _ hi⟩, hst⟩ (by rw [q2]; exact h6) q1 q3 (by rw [hsl]; exact k2_hasslot (q4 fk hN)) rfl rfl hd fun H' e1 e2 e3 => fin H' _ e1 e2 e3 rfl
  · exact va_WputK C.1 C.2.1 (f := f) hown (va_Nw.use rfl (C.2.2.2.2.2.2.2.1.2.2.1.1 _ hq rfl)) (fm_same hts hsm _ hi) hst (by rw [q2]; exact h6) q1 q3 (by rw [hsl]; exact k2_hasslot (q4 fk hN)) rfl rfl hd fun H' e1 e2 e3 => fin H' _ e1 e2 e3 rfl
theorem R_putFM {index ci fk a : Nat} {fs : List Value} {v : Value} {ty : FieldType} (hd : decode M.2.1 pc = .ok (.putfield index, 3)) (hf : Fl M.1.cls index ci fk) (hcls : (clA[ci]?).map (fun q => (q.2.1 fk).1) = some M.1.cls) (hi0 : M.1.name = "<init>") (ht : Fu ci fk ty true) (hn : narrow ty v = v) (hfit : fits ty v = true) (ha : a < hp.2) (hK : K0 ≤ a) (he : hp.1 a = .inr (ci, fs)) (hl : fk < fs.length) (kk : RnH hh G l M d P X (pc + 3) ls st (hset hp a (.inr (ci, fs.set fk v))) c k) : RnH hh G l M d P X pc ls (v :: .ref a :: st) hp c k := by
  intro p e s m args below meth cd mc ms H locs cells slots la C g S L h1 h2
  obtain ⟨C9, T, N, hcl, hN, hq, hin⟩ := hf
  obtain ⟨C8, T8, N8, ty0, hcl8, hty, hnm, hdt, hfin⟩ := ht
  cases Option.some.inj (hcl8.symm.trans hcl)
  rw [hcl] at hcls
  have hdecl : (T fk).1 = M.1.cls := by simpa using hcls
  have hts := C.2.2.2.2.2.2.1
  have hown := C.2.2.2.2.2.1
  have hK0 := C.2.2.2.2.2.2.2.1.2.1
  have W0 := C.2.2.2.2.2.2.2.1.1
  have hap := apart2 hts hin ty0 hty hnm hK0 hcl
  obtain ⟨r, e1, cell, q1, q2, q3, q4⟩ := (g.one ha he (ne_c hcl)) 0 _ rfl
  have hr : r = (C9, T, N) := Option.some.inj (e1.symm.trans hcl)
  subst hr
  obtain ⟨hS, hfc, kC, hkC, hkind⟩ := hK0.1 ci _ hcl
  obtain ⟨cf, kf, fi, f, hi, hsl⟩ := hS fk hN
  have hlay := hts _ (hin _ (u_in_lay hN))
  unfold u_lay at hlay
  rw [if_pos hfin] at hlay
  have hst := (u_facts hfc hkC (u_lays hts hin hN) hi).1
  have hcf : m.cls = cf := by
    obtain ⟨_, _, c', _, _, _, -, -, hf', -, -, -, hown2, -⟩ := Cond.laysFinal_spec hlay
    have e1 : c' = cf := by have := hi.symm.trans hf'; simp at this; exact this.1.symm
    rw [hdecl] at hown2
    rw [← e1]; exact Option.some.inj (hown.symm.trans hown2)
  have h6 := u_fits hfc hkC hkind (Or.inr hlay) hi hdt (cv_nar (G := G) hn) (cv_fit (G := G) hfit)
  refine W.putFinK C.1 C.2.1 hown (hts _ hq) hi hst hcf (C.2.2.2.2.2.2.2.2.2.trans hi0) (by rw [q2]; exact h6) q1 q3 (by rw [hsl]; exact k2_hasslot (q4 fk hN)) rfl rfl hd fun H' e1 e2 e3 => ?_
  rw [hsl] at e1
  have hv : va_at G.2.1 clA (G.1 a, ce G (.inr (ci, fs.set fk v))) H' := ⟨_, hcl, t_OB.to (V := updV (vp_V (fs.map (cv G))) fk (cv G v)) ⟨_, e1, q2, q3, t_set q4 hap hN (cv G v)⟩ (fun j _ => by rw [vp_updV_set (by rw [List.length_map]; exact hl)]; rw [List.map_set])⟩
  exact kk p e s m args below meth cd mc ms H' _ cells slots la C (g.set W0 hK hv e2 e3) (S.put e2 e3 (aA_of W0 hK)) L h1 h2
/-! rows of references: their tags 4 (Object), 5 (Kept) -/
theorem cv_rf (r : Option Nat) : va_rf (r.map G.1) = cv G (va_rf r) := by cases r <;> rfl
def tyR (t : Nat) : Option String := match t with
  | 4 => some "java/lang/Object"
  | 5 => some "TailorRegiment$Kept"
  | 6 => some "java/lang/String"
  | _ => none
theorem tyR_at {t : Nat} {E : String} (h : tyR t = some E) : (tysA G)[t]? = some (G.2.2.1 t, .object E) := by
  match t, h with
  | 4, h => cases h; rfl
  | 5, h => cases h; rfl
  | 6, h => cases h; rfl
theorem R_aald {a n t : Nat} {f : Nat → Option Nat} {i : Int32} {E : String} (hd : decode M.2.1 pc = .ok (.aaload, 1)) (ht : tyR t = some E) (ha : a < hp.2) (he : hp.1 a = .inl (t, n, .inr (.inr (.inr (.inr f))))) (hin : vp_in i n) (kk : RnH hh G l M d P X (pc + 1) ls (va_rf (f i.toNatClampNeg) :: st) hp c k) : RnH hh G l M d P X pc ls (.int i :: .ref a :: st) hp c k := by
  intro p e s m args below meth cd mc ms H locs cells slots la C g S L h1 h2
  have h3 := kk p e s m args below meth cd mc ms H locs cells slots la C g S L h1 h2
  refine va_aldq C.1 C.2.1 C.2.2.2.2.2.2.2.1.2.1 (g.one ha he ne_a) 0 t (f := fun j => (f j).map G.1) rfl (tyR_at ht) hin hd ?_
  rw [cv_rf]
  exact h3
theorem R_alen {a t : Nat} {x : vp_A} (hd : decode M.2.1 pc = .ok (.arraylength, 1)) (ht : t < 7) (ha : a < hp.2) (he : hp.1 a = .inl (t, x)) (kk : RnH hh G l M d P X (pc + 1) ls (.int (nI x.1) :: st) hp c k) : RnH hh G l M d P X pc ls (.ref a :: st) hp c k := by
  intro p e s m args below meth cd mc ms H locs cells slots la C g S L h1 h2
  have h3 := kk p e s m args below meth cd mc ms H locs cells slots la C g S L h1 h2
  have hx : (ca G x).1 = x.1 := by
    obtain ⟨n, f | f | f | f | f⟩ := x <;> rfl
  obtain ⟨ty, hty⟩ : ∃ ty, (tysA G)[t]? = some (G.2.2.1 t, ty) := by
    match t, ht with
    | 0, _ => exact ⟨_, rfl⟩
    | 1, _ => exact ⟨_, rfl⟩
    | 2, _ => exact ⟨_, rfl⟩
    | 3, _ => exact ⟨_, rfl⟩
    | 4, _ => exact ⟨_, rfl⟩
    | 5, _ => exact ⟨_, rfl⟩
    | 6, _ => exact ⟨_, rfl⟩
  exact va_alen C.1 C.2.1 C.2.2.2.2.2.2.2.1.2.1 (g.one ha he ne_a) 0 t (x := ca G x) rfl hty (by rw [hx]; rfl) hd h3
/-- the empty row's length -/
theorem R_alenE (hd : decode M.2.1 pc = .ok (.arraylength, 1)) (kk : RnH hh G l M d P X (pc + 1) ls (.int 0 :: st) hp c k) : RnH hh G l M d P X pc ls (.ref 1 :: st) hp c k := by
  intro p e s m args below meth cd mc ms H locs cells slots la C g S L h1 h2
  have h3 := kk p e s m args below meth cd mc ms H locs cells slots la C g S L h1 h2
  obtain ⟨cell, q1, q2, q3, q4, q5, q6, q7⟩ := (C.2.2.2.2.2.2.2.1.2.2.1.2.2.2.2.2.1.2).kept S.2.1
  exact W.alen (n := 0) C.1 C.2.1 q1 q2 (by rw [q5]; rfl) rfl rfl hd h3
/-- the row of texts KEPT (2) or NAMED (3) -/
theorem R_alenT {w : Nat} (hw : w < 2) (hd : decode M.2.1 pc = .ok (.arraylength, 1)) (kk : RnH hh G l M d P X (pc + 1) ls (.int (if w = 0 then 21 else 6) :: st) hp c k) : RnH hh G l M d P X pc ls (.ref (2 + w) :: st) hp c k := by
  intro p e s m args below meth cd mc ms H locs cells slots la C g S L h1 h2
  have h3 := kk p e s m args below meth cd mc ms H locs cells slots la C g S L h1 h2
  match w, hw with
  | 0, _ =>
    obtain ⟨cell, q1, q2, q3, q4, q5, q6, q7⟩ := (C.2.2.2.2.2.2.2.1.2.2.1.2.2.2.2.2.2.1.2).kept S.2.1
    exact W.alen (n := 21) C.1 C.2.1 q1 q2 (by rw [q5]; rfl) rfl rfl hd h3
  | 1, _ =>
    obtain ⟨cell, q1, q2, q3, q4, q5, q6, q7⟩ := (C.2.2.2.2.2.2.2.1.2.2.1.2.2.2.2.2.2.2.1.2).kept S.2.1
    exact W.alen (n := 6) C.1 C.2.1 q1 q2 (by rw [q5]; rfl) rfl rfl hd h3
theorem R_aaldT {w : Nat} {i : Nat} (hw : w < 2) (hi : i < if w = 0 then 21 else 6) (hd : decode M.2.1 pc = .ok (.aaload, 1)) (kk : RnH hh G l M d P X (pc + 1) ls (.ref (4 + 2 * (if w = 0 then keptS else namedS).getD i 0) :: st) hp c k) : RnH hh G l M d P X pc ls (.int (nI i) :: .ref (2 + w) :: st) hp c k := by
  intro p e s m args below meth cd mc ms H locs cells slots la C g S L h1 h2
  have h3 := kk p e s m args below meth cd mc ms H locs cells slots la C g S L h1 h2
  match w, hw with
  | 0, _ =>
    have hi' : i < 21 := hi
    obtain ⟨cell, q1, q2, q3, q4, q5, q6, q7⟩ := (C.2.2.2.2.2.2.2.1.2.2.1.2.2.2.2.2.2.1.2).kept S.2.1
    exact W.aald (v := .ref (G.1 (4 + 2 * keptS.getD i 0))) (ty := .object "java/lang/String") C.1 C.2.1 q1 q2 rfl q3 (fun q => by rcases q with q | q; exact nI_pos (by omega) q; rw [nI_clamp (by omega)] at q; omega) (by rw [nI_clamp (by omega)]; exact q6 i hi') rfl rfl hd h3
  | 1, _ =>
    have hi' : i < 6 := hi
    obtain ⟨cell, q1, q2, q3, q4, q5, q6, q7⟩ := (C.2.2.2.2.2.2.2.1.2.2.1.2.2.2.2.2.2.2.1.2).kept S.2.1
    exact W.aald (v := .ref (G.1 (4 + 2 * namedS.getD i 0))) (ty := .object "java/lang/String") C.1 C.2.1 q1 q2 rfl q3 (fun q => by rcases q with q | q; exact nI_pos (by omega) q; rw [nI_clamp (by omega)] at q; omega) (by rw [nI_clamp (by omega)]; exact q6 i hi') rfl rfl hd h3
end More
