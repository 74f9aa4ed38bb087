/-! FOUNDATION: methods over an abstract heap. A world G = (addresses, (classes, slots), array classes); a heap picture hp = (cells by abstract address, how many). Rn: a frame runs to its end; Ev: a method's contract. -/
set_option maxRecDepth 100000
abbrev Wd : Type := (Nat → Nat) × va_G × (Nat → ClassId) × (Nat × (Nat → Int32))
abbrev Hp : Type := (Nat → va_E) × Nat
abbrev MD : Type := MethodName × ByteArray × Nat × Option FieldType
/-- how many constant cells (strings' arrays, statics' arrays, the script): abstract addresses below it are never written -/
def K0 : Nat := 64
/-- a local that isn't set -/
abbrev U_ : Value := .retAddr 0
def clA : List vw_C := [(RX8, TX8, 79), (RX0, TX0, 22), (RX1, TX1, 15), (RX2, TX2, 9), (RX3, TX3, 8), (RX5, TX5, 4), (RX6, TX6, 3), (RX7, TX7, 1), (RX9, TX9, 11), (RX11, TX11, 4), (RX12, TX12, 5), (RX14, TX14, 1), (RX15, TX15, 1), (RX16, TX16, 1), (RX17, TX17, 3), (RX18, TX18, 4), (RJ2, TJ2, 3), (RJ10, TJ10, 4)]
def cv (G : Wd) (v : Value) : Value := match v with
  | .ref a => .ref (G.1 a)
  | v => v
def ca (G : Wd) (a : vp_A) : vp_A := match a with
  | (n, .inr (.inr (.inr (.inr f)))) => (n, .inr (.inr (.inr (.inr (fun j => (f j).map G.1)))))
  | a => a
def ce (G : Wd) (e : va_E) : va_E := match e with
  | .inl (t, a) => .inl (G.2.2.1 t, ca G a)
  | .inr (ci, fs) => .inr (ci, fs.map (cv G))
def tysA (G : Wd) : List (ClassId × FieldType) := [(G.2.2.1 0, .int), (G.2.2.1 1, .boolean), (G.2.2.1 2, .byte), (G.2.2.1 3, .long), (G.2.2.1 4, .object "java/lang/Object"), (G.2.2.1 5, .object "TailorRegiment$Kept"), (G.2.2.1 6, .object "java/lang/String")]
def aA (G : Wd) : Nat → Prop := fun q => G.1 K0 ≤ q
/-- addresses: apart; made one behind another from K0 on; constants lie below -/
def GoodW (G : Wd) : Prop := (∀ i j, K0 ≤ j → G.1 i = G.1 j → i = j) ∧ (∀ j, G.1 (K0 + j) = G.1 K0 + j) ∧ ∀ i, i < K0 → G.1 i < G.1 K0
/-- words of the tables that don't ride in lw_all -/
def nwB (w : Cond) : Bool := match w with
  | .fieldLinkNest _ _ _ _ _ _ => true
  | .methodLinkNest _ _ _ _ => true
  | .declares _ => true
  | .castable _ _ => true
  | _ => false
theorem nwB_move {w : Cond} (hw : nwB w = true) {s U : State} (hW : s.WarmedH U.vm) (h : va_Nw w s) : va_Nw w U := by
  cases w <;> first | exact va_Nw.warmF hW h | exact va_Nw.warmM hW h | exact va_Nw.warmD hW h | exact va_Nw.warmC hW h | cases hw
theorem nwB_tab {w : Cond} (hw : nwB w = true) : w.onTables = true := by cases w <;> first | rfl | cases hw
/-- the texts of the program: their bytes -/
def txS : List (List Nat) := [[109, 97, 110], [116, 97, 108, 108], [119, 105, 100, 101], [103, 114, 111, 119, 115], [99, 111, 97, 116], [115, 101, 97, 109], [119, 111, 114, 110], [105, 108, 108], [101, 97, 115, 121], [98, 111, 108, 116], [108, 105, 107, 101], [114, 97, 105, 110], [100, 114, 97, 119], [116, 105, 103, 104, 116], [108, 111, 111, 115, 101], [115, 104, 111, 114, 116], [108, 111, 110, 103], [100, 97, 121], [111, 114], [97, 110, 100], [110, 111, 116]]
/-- where a text stands in a constant pool: class, entry, text, its place in txS -/
def ldS : List (String × Nat × String × Nat) := [("TailorRegiment$Reader", 130, "tall", 1), ("TailorRegiment$Reader", 134, "wide", 2), ("TailorRegiment$Reader", 155, "grows", 3), ("TailorRegiment$Reader", 172, "seam", 5), ("TailorRegiment$Reader", 176, "worn", 6), ("TailorRegiment$Reader", 193, "or", 18), ("TailorRegiment$Reader", 206, "and", 19), ("TailorRegiment$Reader", 208, "not", 20), ("TailorRegiment$Reader", 244, "man", 0), ("TailorRegiment$Reader", 248, "coat", 4), ("TailorRegiment$Reader", 250, "ill", 7), ("TailorRegiment$Reader", 255, "easy", 8), ("TailorRegiment$Reader", 261, "bolt", 9), ("TailorRegiment$Reader", 266, "like", 10), ("TailorRegiment$Reader", 271, "rain", 11), ("TailorRegiment$Reader", 276, "draw", 12), ("TailorRegiment$Reader", 304, "tight", 13), ("TailorRegiment$Reader", 306, "loose", 14), ("TailorRegiment$Reader", 308, "short", 15), ("TailorRegiment$Reader", 310, "long", 16), ("TailorRegiment$Reader", 312, "day", 17)]
def lenS : List Nat := txS.map List.length
def bytS : List (List Int32) := txS.map (fun l => l.map nI)
def keptS : List Nat := [0, 1, 2, 3, 4, 5, 6, 7, 8, 9, 10, 11, 12, 13, 14, 15, 16, 17, 18, 19, 20]
def namedS : List Nat := [13, 14, 15, 16, 6, 17]
/-- the constants' places: the script 0, the empty row 1, KEPT 2, NAMED 3, texts 4 + 2 i, their bytes 5 + 2 i -/
def iterX (n : Nat) : MethodName := if n = 0 then ⟨"java/util/Iterator", "hasNext", "()Z"⟩ else ⟨"java/util/Iterator", "next", "()Ljava/lang/Object;"⟩
def iterY (n : Nat) : MethodName := if n = 0 then ⟨"java/util/ArrayList$Itr", "hasNext", "()Z"⟩ else ⟨"java/util/ArrayList$Itr", "next", "()Ljava/lang/Object;"⟩
/-- a static that holds nothing, or the constant at place j (46: the class object of Object[]; 47 to 49: such statics) -/
def zqA (C n d : String) (j : Nat) (G : Wd) (s : State) (H : Heap) : Prop := (va_Z C n d .null (aA G) s H ∨ va_Z C n d (.ref (G.1 j)) (aA G) s H) ∧ vx_L C n d (aA G) s H
def GoodX (G : Wd) (s : State) (H : Heap) : Prop :=
  (∀ w ∈ lw_tbl, nwB w = true → va_Nw w s) ∧ (∀ n, n < 2 → va_Fw "java/util/ArrayList$Itr" (iterX n) (iterY n) s) ∧ va_AO "java/lang/Object" s ∧ va_AO "TailorRegiment$Kept" s ∧
  (va_X (G.1 0) G.2.2.2.1 G.2.2.2.2 s H) ∧
  (va_Z "java/util/ArrayList" "DEFAULTCAPACITY_EMPTY_ELEMENTDATA" "[Ljava/lang/Object;" (.ref (G.1 1)) (aA G) s H ∧ va_T (.object "java/lang/Object") (G.1 1) 0 (fun _ => .null) (aA G) s H) ∧
  (va_Z "TailorRegiment$Reader" "KEPT" "[Ljava/lang/String;" (.ref (G.1 2)) (aA G) s H ∧ va_T (.object "java/lang/String") (G.1 2) 21 (fun j => .ref (G.1 (4 + 2 * keptS.getD j 0))) (aA G) s H) ∧
  (va_Z "TailorRegiment$Reader" "NAMED" "[Ljava/lang/String;" (.ref (G.1 3)) (aA G) s H ∧ va_T (.object "java/lang/String") (G.1 3) 6 (fun j => .ref (G.1 (4 + 2 * namedS.getD j 0))) (aA G) s H) ∧
  va_Z "java/lang/String" "COMPACT_STRINGS" "Z" (.int 1) (aA G) s H ∧
  vk_S 21 lenS bytS (fun i => G.1 (4 + 2 * i)) (fun i => G.1 (5 + 2 * i)) (aA G) s H ∧
  (∀ q ∈ ldS, vk_R q.1 q.2.1 q.2.2.1 (G.1 (4 + 2 * q.2.2.2)) s) ∧
  va_Mi "[Ljava/lang/Object;" (G.1 46) s ∧ zqA "jdk/internal/util/Preconditions" "SIOOBE_FORMATTER" "Ljava/util/function/BiFunction;" 47 G s H ∧ zqA Bundle.tN "UNASSIGNED_STACK" Bundle.steD 48 G s H ∧ zqA Bundle.tN "SUPPRESSED_SENTINEL" Bundle.listD 49 G s H
/-- what the state's tables say -/
def GoodS (G : Wd) (s : State) : Prop := GoodW G ∧ va_K G.2.1 clA (tysA G) s ∧ GoodX G s s.heap ∧ G.1 K0 ≤ s.heap.size
/-- a cell of which nothing is said -/
def dead : va_E := .inr (9999, [])
theorem ne_c {ci : Nat} {q : vw_C} {fs : List Value} (h : clA[ci]? = some q) : (.inr (ci, fs) : va_E) ≠ dead := by
  intro e
  cases e
  cases h
theorem ne_a {x : ClassId × vp_A} : (.inl x : va_E) ≠ dead := by intro e; cases e
/-- the heap holds the picture -/
def GoodP (G : Wd) (hp : Hp) (H : Heap) : Prop := K0 ≤ hp.2 ∧ H.size = G.1 hp.2 ∧ ∀ i, i < hp.2 → hp.1 i ≠ dead → va_at G.2.1 clA (G.1 i, ce G (hp.1 i)) H
def hset (hp : Hp) (a : Nat) (e : va_E) : Hp := (fun i => if i = a then e else hp.1 i, hp.2)
def hnew (hp : Hp) (e : va_E) : Hp := (fun i => if i = hp.2 then e else hp.1 i, hp.2 + 1)
def lvL (G : Wd) : Nat → List Value → List (Nat × Value)
  | _, [] => []
  | i, v :: vs => match v with
    | .retAddr _ => lvL G (i + 1) vs
    | v => (i, cv G v) :: lvL G (i + 1) vs
def isU (v : Value) : Bool := match v with
  | .retAddr _ => true
  | _ => false
theorem lvL_mem {G : Wd} : ∀ (ls : List Value) (i : Nat) (q : Nat × Value), q ∈ lvL G i ls ↔ ∃ k v, ls[k]? = some v ∧ isU v = false ∧ q = (i + k, cv G v)
  | [], i, q => by simp [lvL]
  | v :: vs, i, q => by
    have ih := lvL_mem (G := G) vs (i + 1) q
    have e : lvL G i (v :: vs) = if isU v then lvL G (i + 1) vs else (i, cv G v) :: lvL G (i + 1) vs := by
      cases v <;> rfl
    rw [e]
    constructor
    · intro h
      by_cases hu : isU v = true
      · rw [if_pos hu] at h
        obtain ⟨k, w, h1, h2, h3⟩ := ih.mp h
        exact ⟨k + 1, w, by simpa using h1, h2, by rw [h3]; congr 1; omega⟩
      · rw [if_neg hu] at h
        rcases List.mem_cons.mp h with h | h
        · exact ⟨0, v, rfl, by simpa using hu, h⟩
        · obtain ⟨k, w, h1, h2, h3⟩ := ih.mp h
          exact ⟨k + 1, w, by simpa using h1, h2, by rw [h3]; congr 1; omega⟩
    · rintro ⟨k, w, h1, h2, h3⟩
      cases k with
      | zero =>
        simp at h1
        subst h1
        rw [if_neg (by rw [h2]; decide)]
        exact List.mem_cons.mpr (Or.inl h3)
      | succ k =>
        have hm : q ∈ lvL G (i + 1) vs := ih.mpr ⟨k, w, by simpa using h1, h2, by rw [h3]; congr 1; omega⟩
        by_cases hu : isU v = true
        · rw [if_pos hu]; exact hm
        · rw [if_neg hu]; exact List.mem_cons_of_mem _ hm
theorem lv_less {la : Array Slot} {n : Nat} {l l' : List (Nat × Value)} (h : lv_has la n l) (hs : ∀ q ∈ l', q ∈ l) : lv_has la n l' := ⟨h.1, h.2.1, fun q hq => h.2.2 q (hs q hq)⟩
theorem lvL_get {G : Wd} {la : Array Slot} {n : Nat} {ls : List Value} (h : lv_has la n (lvL G 0 ls)) {k : Nat} {v : Value} (hk : ls[k]? = some v) (hu : isU v = false) : la[k]? = some (.val (cv G v)) := by
  have h1 := h.2.2 (k, cv G v) ((lvL_mem ls 0 _).mpr ⟨k, v, hk, hu, by simp⟩)
  exact h1
/-- a store at i doesn't fall into a long's second word -/
def okS (ls : List Value) (i : Nat) : Bool := match i with
  | 0 => true
  | j + 1 => match ls[j]? with
    | some v => v.category == 1
    | none => true
theorem cv_cat (G : Wd) (v : Value) : (cv G v).category = v.category := by cases v <;> rfl
theorem lvL_set1 {G : Wd} {la : Array Slot} {n i : Nat} {ls : List Value} {v : Value} (ho : okS ls i = true)
    (h : lv_has la n ((i, cv G v) :: (lvL G 0 ls).filter (fun q => !(q.1 == i) && !(q.1 + 1 == i && q.2.category == 2)))) : lv_has la n (lvL G 0 (ls.set i v)) := by
  refine lv_less h ?_
  intro q hq
  obtain ⟨k, w, h1, h2, h3⟩ := (lvL_mem _ 0 q).mp hq
  rw [Nat.zero_add] at h3
  subst h3
  by_cases hk : k = i
  · subst hk
    have hl : k < (ls.set k v).length := (List.getElem?_eq_some_iff.mp h1).1
    rw [List.length_set] at hl
    rw [List.getElem?_set_self hl] at h1
    cases h1
    exact List.mem_cons_self
  · rw [List.getElem?_set_ne (Ne.symm hk)] at h1
    refine List.mem_cons_of_mem _ (List.mem_filter.mpr ⟨(lvL_mem _ 0 _).mpr ⟨k, w, h1, h2, by simp⟩, ?_⟩)
    have e1 : (k == i) = false := by simpa using hk
    by_cases hj : k + 1 = i
    · subst hj
      have ho' : (w.category == 1) = true := by
        have := ho
        unfold okS at this
        simp only [h1] at this
        exact this
      have hc : w.category = 1 := by simpa using ho'
      simp [cv_cat, hc]
    · have e2 : (k + 1 == i) = false := by simpa using hj
      simp [e1, e2]
theorem lvL_set2 {G : Wd} {la : Array Slot} {n i : Nat} {ls : List Value} {v : Value} (ho : okS ls i = true)
    (h : lv_has la n ((i, cv G v) :: (lvL G 0 ls).filter (fun q => !(q.1 == i) && (!(q.1 == i + 1) && !(q.1 + 1 == i && q.2.category == 2))))) : lv_has la n (lvL G 0 ((ls.set i v).set (i + 1) U_)) := by
  refine lv_less h ?_
  intro q hq
  obtain ⟨k, w, h1, h2, h3⟩ := (lvL_mem _ 0 q).mp hq
  rw [Nat.zero_add] at h3
  subst h3
  have hk1 : k ≠ i + 1 := by
    intro e
    subst e
    have hl : i + 1 < ((ls.set i v).set (i + 1) U_).length := (List.getElem?_eq_some_iff.mp h1).1
    rw [List.length_set] at hl
    rw [List.getElem?_set_self hl] at h1
    cases h1
    cases h2
  rw [List.getElem?_set_ne (Ne.symm hk1)] at h1
  by_cases hk : k = i
  · subst hk
    have hl : k < (ls.set k v).length := (List.getElem?_eq_some_iff.mp h1).1
    rw [List.length_set] at hl
    rw [List.getElem?_set_self hl] at h1
    cases h1
    exact List.mem_cons_self
  · rw [List.getElem?_set_ne (Ne.symm hk)] at h1
    refine List.mem_cons_of_mem _ (List.mem_filter.mpr ⟨(lvL_mem _ 0 _).mpr ⟨k, w, h1, h2, by simp⟩, ?_⟩)
    have e1 : (k == i) = false := by simpa using hk
    have e3 : (k == i + 1) = false := by simpa using hk1
    by_cases hj : k + 1 = i
    · subst hj
      have ho' : (w.category == 1) = true := by
        have := ho
        unfold okS at this
        simp only [h1] at this
        exact this
      have hc : w.category = 1 := by simpa using ho'
      simp [cv_cat, hc]
      omega
    · have e2 : (k + 1 == i) = false := by simpa using hj
      simp [e1, e2, e3]
/-- what holds of the machine all through a method's run -/
def Cx (G : Wd) (M : MD) (hh : List (Nat × Nat × Nat × Nat)) (p : Program) (s : State) (m : MethodId) (args : Array Value) (meth : Method) (cd : Code) : Prop :=
  p.tables.exec = Jvm.exec ∧ cd.code = M.2.1 ∧ cd.maxLocals = M.2.2.1 ∧ meth.sig.returnType = M.2.2.2 ∧ meth.locks = false ∧ s.vm.findClass M.1.cls = some m.cls ∧ (∀ w ∈ lw_all, w.before args s = true) ∧ GoodS G s ∧ cd.exceptionTable.toList = tableOf hh ∧ meth.name = M.1.name
/-- a method's end: it returns (P), or throws an object of the picture (X) -/
def xQ (G : Wd) (P : Option Value → Hp → Prop) (X : Nat → Hp → Prop) (s : State) (mc ms : Nat) (o : Outcome) (t : State) : Prop :=
  (((∃ (v : Option Value) (hp : Hp), o = .returned (v.map (cv G)) ∧ P v hp ∧ GoodP G hp t.heap) ∧ va_F (aA G) s t) ∧ ∃ L, FrameEnd s o t L mc ms ∧ ∀ q ∈ L, aA G q.base) ∨
  (∃ (a : Nat) (hp : Hp) (L : List Loc), o = .threw (G.1 a) ∧ X a hp ∧ GoodP G hp t.heap ∧ va_F (aA G) s t ∧ s.WarmedH t.vm ∧ s.sameButNew ({ t with vm := s.vm } : State) L mc ms ∧ ∀ z ∈ L, aA G z.base)
def xMQ (G : Wd) (P : Option Value → Hp → Prop) (X : Nat → Hp → Prop) (below : List Frame) (s : State) (mc ms : Nat) : State → Prop := fun t =>
  ∃ o, t.status = .running ∧ Ended t below o ∧ xQ G P X s mc ms o t
/-- a frame of the method M (handlers hh), at pc with locals ls, operands st, heap hp, comes to an end by P or X; at most c cells of k slots are made; d frames lie above -/
def RnH (hh : List (Nat × Nat × Nat × Nat)) (G : Wd) (l : Launch) (M : MD) (d : Nat) (P : Option Value → Hp → Prop) (X : Nat → Hp → Prop) (pc : Nat) (ls st : List Value) (hp : Hp) (c k : Nat) : Prop :=
  ∀ (p : Program) (e : Env) (s : State) (m : MethodId) (args : Array Value) (below : List Frame) (meth : Method) (cd : Code) (mc ms : Nat) (H : Heap) (locs : List Loc) (cells slots : Nat) (la : Array Slot),
    Cx G M hh p s m args meth cd → GoodP G hp H → va_S (aA G) s.heap H locs → lv_has la M.2.2.1 (lvL G 0 ls) → cells + c ≤ mc → slots + k ≤ ms →
    W p l e { frames := d, cells := mc, slots := ms, locals := 100 * d } s m args below meth cd H locs cells slots (xMQ G P X below s mc ms) (F0 m pc la (st.map (cv G)))
abbrev noX : Nat → Hp → Prop := fun _ _ => False
/-- a method's contract: from the picture hp with these arguments it returns, by P -/
def Qn (G : Wd) (P : Option Value → Hp → Prop) : Array Value → State → Outcome → State → Prop := fun _ st o t => (∃ (v : Option Value) (hp : Hp), o = .returned (v.map (cv G)) ∧ P v hp ∧ GoodP G hp t.heap) ∧ va_F (aA G) st t
def Ev (G : Wd) (l : Launch) (M : MD) (d c k : Nat) (as : List Value) (hp : Hp) (P : Option Value → Hp → Prop) : Prop :=
  Met l M.1 (ws_ M.1 M.2.1 M.2.2.1 M.2.2.2) { frames := d, cells := c, slots := k, locals := 100 * d } (va_Pc (as.map (cv G)) (fun U => GoodS G U ∧ GoodP G hp U.heap)) (Qn G P) c k (aA G)
section Rules
variable {hh : List (Nat × Nat × Nat × Nat)} {G : Wd} {l : Launch} {M : MD} {d : Nat} {P : Option Value → Hp → Prop} {X : Nat → Hp → Prop} {pc : Nat} {ls st : List Value} {hp : Hp} {c k : Nat} {H : Heap}
theorem R_iadd {x y : Int32} (hd : decode M.2.1 pc = .ok (.iadd, 1)) (kk : RnH hh G l M d P X (pc + 1) ls (.int (x + y) :: st) hp c k) : RnH hh G l M d P X pc ls (.int y :: .int x :: st) hp c k := by
  intro p e s m args below meth cd mc ms H locs cells slots la C g S L h1 h2
  exact lv_iadd C.1 C.2.1 hd (kk p e s m args below meth cd mc ms H locs cells slots la C g S L h1 h2)

theorem R_isub {x y : Int32} (hd : decode M.2.1 pc = .ok (.isub, 1)) (kk : RnH hh G l M d P X (pc + 1) ls (.int (x - y) :: st) hp c k) : RnH hh G l M d P X pc ls (.int y :: .int x :: st) hp c k := by
  intro p e s m args below meth cd mc ms H locs cells slots la C g S L h1 h2
  exact lv_isub C.1 C.2.1 hd (kk p e s m args below meth cd mc ms H locs cells slots la C g S L h1 h2)

theorem R_imul {x y : Int32} (hd : decode M.2.1 pc = .ok (.imul, 1)) (kk : RnH hh G l M d P X (pc + 1) ls (.int (x * y) :: st) hp c k) : RnH hh G l M d P X pc ls (.int y :: .int x :: st) hp c k := by
  intro p e s m args below meth cd mc ms H locs cells slots la C g S L h1 h2
  exact lv_imul C.1 C.2.1 hd (kk p e s m args below meth cd mc ms H locs cells slots la C g S L h1 h2)

theorem R_iand {x y : Int32} (hd : decode M.2.1 pc = .ok (.iand, 1)) (kk : RnH hh G l M d P X (pc + 1) ls (.int (x &&& y) :: st) hp c k) : RnH hh G l M d P X pc ls (.int y :: .int x :: st) hp c k := by
  intro p e s m args below meth cd mc ms H locs cells slots la C g S L h1 h2
  exact lv_iand C.1 C.2.1 hd (kk p e s m args below meth cd mc ms H locs cells slots la C g S L h1 h2)

theorem R_ior {x y : Int32} (hd : decode M.2.1 pc = .ok (.ior, 1)) (kk : RnH hh G l M d P X (pc + 1) ls (.int (x ||| y) :: st) hp c k) : RnH hh G l M d P X pc ls (.int y :: .int x :: st) hp c k := by
  intro p e s m args below meth cd mc ms H locs cells slots la C g S L h1 h2
  exact lv_ior C.1 C.2.1 hd (kk p e s m args below meth cd mc ms H locs cells slots la C g S L h1 h2)

theorem R_ixor {x y : Int32} (hd : decode M.2.1 pc = .ok (.ixor, 1)) (kk : RnH hh G l M d P X (pc + 1) ls (.int (x ^^^ y) :: st) hp c k) : RnH hh G l M d P X pc ls (.int y :: .int x :: st) hp c k := by
  intro p e s m args below meth cd mc ms H locs cells slots la C g S L h1 h2
  exact lv_ixor C.1 C.2.1 hd (kk p e s m args below meth cd mc ms H locs cells slots la C g S L h1 h2)

theorem R_ishl {x y : Int32} (hd : decode M.2.1 pc = .ok (.ishl, 1)) (kk : RnH hh G l M d P X (pc + 1) ls (.int (x <<< (y &&& 31)) :: st) hp c k) : RnH hh G l M d P X pc ls (.int y :: .int x :: st) hp c k := by
  intro p e s m args below meth cd mc ms H locs cells slots la C g S L h1 h2
  exact lv_ishl C.1 C.2.1 hd (kk p e s m args below meth cd mc ms H locs cells slots la C g S L h1 h2)

theorem R_ishr {x y : Int32} (hd : decode M.2.1 pc = .ok (.ishr, 1)) (kk : RnH hh G l M d P X (pc + 1) ls (.int (x >>> (y &&& 31)) :: st) hp c k) : RnH hh G l M d P X pc ls (.int y :: .int x :: st) hp c k := by
  intro p e s m args below meth cd mc ms H locs cells slots la C g S L h1 h2
  exact lv_ishr C.1 C.2.1 hd (kk p e s m args below meth cd mc ms H locs cells slots la C g S L h1 h2)

theorem R_idiv {x y : Int32} (hd : decode M.2.1 pc = .ok (.idiv, 1)) (hne : ¬ y = 0) (kk : RnH hh G l M d P X (pc + 1) ls (.int (x / y) :: st) hp c k) : RnH hh G l M d P X pc ls (.int y :: .int x :: st) hp c k := by
  intro p e s m args below meth cd mc ms H locs cells slots la C g S L h1 h2
  exact lv_idiv C.1 C.2.1 hd hne (kk p e s m args below meth cd mc ms H locs cells slots la C g S L h1 h2)

theorem R_irem {x y : Int32} (hd : decode M.2.1 pc = .ok (.irem, 1)) (hne : ¬ y = 0) (kk : RnH hh G l M d P X (pc + 1) ls (.int (x - x / y * y) :: st) hp c k) : RnH hh G l M d P X pc ls (.int y :: .int x :: st) hp c k := by
  intro p e s m args below meth cd mc ms H locs cells slots la C g S L h1 h2
  exact lv_irem C.1 C.2.1 hd hne (kk p e s m args below meth cd mc ms H locs cells slots la C g S L h1 h2)

theorem R_iushr {x y : Int32} (hd : decode M.2.1 pc = .ok (.iushr, 1)) (kk : RnH hh G l M d P X (pc + 1) ls (.int (x.toUInt32 >>> (y.toUInt32 &&& Int32.toUInt32 31)).toInt32 :: st) hp c k) : RnH hh G l M d P X pc ls (.int y :: .int x :: st) hp c k := by
  intro p e s m args below meth cd mc ms H locs cells slots la C g S L h1 h2
  exact lv_iushr C.1 C.2.1 hd rfl (kk p e s m args below meth cd mc ms H locs cells slots la C g S L h1 h2)

theorem R_ineg {x : Int32} (hd : decode M.2.1 pc = .ok (.ineg, 1)) (kk : RnH hh G l M d P X (pc + 1) ls (.int (-x) :: st) hp c k) : RnH hh G l M d P X pc ls (.int x :: st) hp c k := by
  intro p e s m args below meth cd mc ms H locs cells slots la C g S L h1 h2
  exact lv_ineg C.1 C.2.1 hd (kk p e s m args below meth cd mc ms H locs cells slots la C g S L h1 h2)

theorem R_i2b {x : Int32} (hd : decode M.2.1 pc = .ok (.i2b, 1)) (kk : RnH hh G l M d P X (pc + 1) ls (.int x.toInt8.toInt32 :: st) hp c k) : RnH hh G l M d P X pc ls (.int x :: st) hp c k := by
  intro p e s m args below meth cd mc ms H locs cells slots la C g S L h1 h2
  exact lv_i2b C.1 C.2.1 hd rfl (kk p e s m args below meth cd mc ms H locs cells slots la C g S L h1 h2)

theorem R_i2c {x : Int32} (hd : decode M.2.1 pc = .ok (.i2c, 1)) (kk : RnH hh G l M d P X (pc + 1) ls (.int (x.toUInt32 % 65536).toInt32 :: st) hp c k) : RnH hh G l M d P X pc ls (.int x :: st) hp c k := by
  intro p e s m args below meth cd mc ms H locs cells slots la C g S L h1 h2
  exact lv_i2c C.1 C.2.1 hd rfl (kk p e s m args below meth cd mc ms H locs cells slots la C g S L h1 h2)

theorem R_i2l {x : Int32} (hd : decode M.2.1 pc = .ok (.i2l, 1)) (kk : RnH hh G l M d P X (pc + 1) ls (.long x.toInt64 :: st) hp c k) : RnH hh G l M d P X pc ls (.int x :: st) hp c k := by
  intro p e s m args below meth cd mc ms H locs cells slots la C g S L h1 h2
  exact lv_i2l C.1 C.2.1 hd rfl (kk p e s m args below meth cd mc ms H locs cells slots la C g S L h1 h2)

theorem R_lshl {x : Int64} {y : Int32} (hd : decode M.2.1 pc = .ok (.lshl, 1)) (kk : RnH hh G l M d P X (pc + 1) ls (.long (x <<< (y.toInt64 &&& 63)) :: st) hp c k) : RnH hh G l M d P X pc ls (.int y :: .long x :: st) hp c k := by
  intro p e s m args below meth cd mc ms H locs cells slots la C g S L h1 h2
  exact lv_lshl C.1 C.2.1 hd rfl (kk p e s m args below meth cd mc ms H locs cells slots la C g S L h1 h2)

theorem R_lor {x y : Int64} (hd : decode M.2.1 pc = .ok (.lor, 1)) (kk : RnH hh G l M d P X (pc + 1) ls (.long (x ||| y) :: st) hp c k) : RnH hh G l M d P X pc ls (.long y :: .long x :: st) hp c k := by
  intro p e s m args below meth cd mc ms H locs cells slots la C g S L h1 h2
  exact lv_lor C.1 C.2.1 hd (kk p e s m args below meth cd mc ms H locs cells slots la C g S L h1 h2)

theorem R_iconst {n : Int} {v : Int32} (hd : decode M.2.1 pc = .ok (.iconst n, 1)) (hv : Int32.ofInt n = v) (kk : RnH hh G l M d P X (pc + 1) ls (.int v :: st) hp c k) : RnH hh G l M d P X pc ls (st) hp c k := by
  intro p e s m args below meth cd mc ms H locs cells slots la C g S L h1 h2
  exact lv_iconst C.1 C.2.1 hd hv (kk p e s m args below meth cd mc ms H locs cells slots la C g S L h1 h2)

theorem R_bipush {n : Int} {v : Int32} (hd : decode M.2.1 pc = .ok (.bipush n, 2)) (hv : (Int8.ofInt n).toInt32 = v) (kk : RnH hh G l M d P X (pc + 2) ls (.int v :: st) hp c k) : RnH hh G l M d P X pc ls (st) hp c k := by
  intro p e s m args below meth cd mc ms H locs cells slots la C g S L h1 h2
  exact lv_bipush C.1 C.2.1 hd hv (kk p e s m args below meth cd mc ms H locs cells slots la C g S L h1 h2)

theorem R_sipush {n : Int} {v : Int32} (hd : decode M.2.1 pc = .ok (.sipush n, 3)) (hv : (Int16.ofInt n).toInt32 = v) (kk : RnH hh G l M d P X (pc + 3) ls (.int v :: st) hp c k) : RnH hh G l M d P X pc ls (st) hp c k := by
  intro p e s m args below meth cd mc ms H locs cells slots la C g S L h1 h2
  exact lv_sipush C.1 C.2.1 hd hv (kk p e s m args below meth cd mc ms H locs cells slots la C g S L h1 h2)

theorem R_lconst {n : Fin 2} {v : Int64} (hd : decode M.2.1 pc = .ok (.lconst n, 1)) (hv : Int64.ofNat (n : Nat) = v) (kk : RnH hh G l M d P X (pc + 1) ls (.long v :: st) hp c k) : RnH hh G l M d P X pc ls (st) hp c k := by
  intro p e s m args below meth cd mc ms H locs cells slots la C g S L h1 h2
  exact lv_lconst C.1 C.2.1 hd hv (kk p e s m args below meth cd mc ms H locs cells slots la C g S L h1 h2)

theorem R_dup {va : Value} (hd : decode M.2.1 pc = .ok (.dup, 1)) (hva : va.category = 1) (kk : RnH hh G l M d P X (pc + 1) ls (va :: va :: st) hp c k) : RnH hh G l M d P X pc ls (va :: st) hp c k := by
  intro p e s m args below meth cd mc ms H locs cells slots la C g S L h1 h2
  exact lv_dup C.1 C.2.1 hd (by rw [cv_cat]; exact hva) (kk p e s m args below meth cd mc ms H locs cells slots la C g S L h1 h2)

theorem R_pop {va : Value} (hd : decode M.2.1 pc = .ok (.pop, 1)) (hva : va.category = 1) (kk : RnH hh G l M d P X (pc + 1) ls (st) hp c k) : RnH hh G l M d P X pc ls (va :: st) hp c k := by
  intro p e s m args below meth cd mc ms H locs cells slots la C g S L h1 h2
  exact lv_pop C.1 C.2.1 hd (by rw [cv_cat]; exact hva) (kk p e s m args below meth cd mc ms H locs cells slots la C g S L h1 h2)

theorem R_dup_x1 {va vb : Value} (hd : decode M.2.1 pc = .ok (.dup_x1, 1)) (hva : va.category = 1) (hvb : vb.category = 1) (kk : RnH hh G l M d P X (pc + 1) ls (va :: vb :: va :: st) hp c k) : RnH hh G l M d P X pc ls (va :: vb :: st) hp c k := by
  intro p e s m args below meth cd mc ms H locs cells slots la C g S L h1 h2
  exact lv_dup_x1 C.1 C.2.1 hd (by rw [cv_cat]; exact hva) (by rw [cv_cat]; exact hvb) (kk p e s m args below meth cd mc ms H locs cells slots la C g S L h1 h2)

theorem R_dup2 {va vb : Value} (hd : decode M.2.1 pc = .ok (.dup2, 1)) (hva : va.category = 1) (hvb : vb.category = 1) (kk : RnH hh G l M d P X (pc + 1) ls (va :: vb :: va :: vb :: st) hp c k) : RnH hh G l M d P X pc ls (va :: vb :: st) hp c k := by
  intro p e s m args below meth cd mc ms H locs cells slots la C g S L h1 h2
  exact lv_dup2_11 C.1 C.2.1 hd (by rw [cv_cat]; exact hva) (by rw [cv_cat]; exact hvb) (kk p e s m args below meth cd mc ms H locs cells slots la C g S L h1 h2)

theorem R_aconst_null  (hd : decode M.2.1 pc = .ok (.aconst_null, 1)) (kk : RnH hh G l M d P X (pc + 1) ls (.null :: st) hp c k) : RnH hh G l M d P X pc ls (st) hp c k := by
  intro p e s m args below meth cd mc ms H locs cells slots la C g S L h1 h2
  exact lv_null C.1 C.2.1 hd (kk p e s m args below meth cd mc ms H locs cells slots la C g S L h1 h2)

theorem R_ldc2 {index : Nat} {v : Int64} (hd : decode M.2.1 pc = .ok (.ldc2_w index, 3)) (hq : Jvm.Cond.constantLong M.1.cls index v ∈ lw_all) (kk : RnH hh G l M d P X (pc + 3) ls (.long v :: st) hp c k) : RnH hh G l M d P X pc ls (st) hp c k := by
  intro p e s m args below meth cd mc ms H locs cells slots la C g S L h1 h2
  exact lv_ldc2 C.1 C.2.1 C.2.2.2.2.2.1 (C.2.2.2.2.2.2.1 _ hq) hd (kk p e s m args below meth cd mc ms H locs cells slots la C g S L h1 h2)

theorem R_ldc {index : Nat} {v : Int32} (hd : decode M.2.1 pc = .ok (.ldc index, 2)) (hq : Jvm.Cond.constant M.1.cls index v ∈ lw_all) (kk : RnH hh G l M d P X (pc + 2) ls (.int v :: st) hp c k) : RnH hh G l M d P X pc ls (st) hp c k := by
  intro p e s m args below meth cd mc ms H locs cells slots la C g S L h1 h2
  exact lv_ldc C.1 C.2.1 C.2.2.2.2.2.1 (C.2.2.2.2.2.2.1 _ hq) hd (kk p e s m args below meth cd mc ms H locs cells slots la C g S L h1 h2)

theorem R_ldcw {index : Nat} {v : Int32} (hd : decode M.2.1 pc = .ok (.ldc_w index, 3)) (hq : Jvm.Cond.constant M.1.cls index v ∈ lw_all) (kk : RnH hh G l M d P X (pc + 3) ls (.int v :: st) hp c k) : RnH hh G l M d P X pc ls (st) hp c k := by
  intro p e s m args below meth cd mc ms H locs cells slots la C g S L h1 h2
  exact lv_ldcw C.1 C.2.1 C.2.2.2.2.2.1 (C.2.2.2.2.2.2.1 _ hq) hd (kk p e s m args below meth cd mc ms H locs cells slots la C g S L h1 h2)

theorem R_iload_n {q : Fin 4} {x : Int32} (hd : decode M.2.1 pc = .ok (.iload_n q, 1)) (hl : ls[(q : Nat)]? = some (.int x)) (kk : RnH hh G l M d P X (pc + 1) ls (.int x :: st) hp c k) : RnH hh G l M d P X pc ls (st) hp c k := by
  intro p e s m args below meth cd mc ms H locs cells slots la C g S L h1 h2
  exact lv_iload_n C.1 C.2.1 hd rfl (lvL_get L hl rfl) (kk p e s m args below meth cd mc ms H locs cells slots la C g S L h1 h2)

theorem R_iload {i : Nat} {x : Int32} (hd : decode M.2.1 pc = .ok (.iload i, 2)) (hl : ls[i]? = some (.int x)) (kk : RnH hh G l M d P X (pc + 2) ls (.int x :: st) hp c k) : RnH hh G l M d P X pc ls (st) hp c k := by
  intro p e s m args below meth cd mc ms H locs cells slots la C g S L h1 h2
  exact lv_iload C.1 C.2.1 hd (lvL_get L hl rfl) (kk p e s m args below meth cd mc ms H locs cells slots la C g S L h1 h2)

theorem R_lload_n {q : Fin 4} {x : Int64} (hd : decode M.2.1 pc = .ok (.lload_n q, 1)) (hl : ls[(q : Nat)]? = some (.long x)) (kk : RnH hh G l M d P X (pc + 1) ls (.long x :: st) hp c k) : RnH hh G l M d P X pc ls (st) hp c k := by
  intro p e s m args below meth cd mc ms H locs cells slots la C g S L h1 h2
  exact lv_lload_n C.1 C.2.1 hd rfl (lvL_get L hl rfl) (kk p e s m args below meth cd mc ms H locs cells slots la C g S L h1 h2)

theorem R_lload {i : Nat} {x : Int64} (hd : decode M.2.1 pc = .ok (.lload i, 2)) (hl : ls[i]? = some (.long x)) (kk : RnH hh G l M d P X (pc + 2) ls (.long x :: st) hp c k) : RnH hh G l M d P X pc ls (st) hp c k := by
  intro p e s m args below meth cd mc ms H locs cells slots la C g S L h1 h2
  exact lv_lload C.1 C.2.1 hd (lvL_get L hl rfl) (kk p e s m args below meth cd mc ms H locs cells slots la C g S L h1 h2)

theorem R_aload_n {q : Fin 4} {x : Nat} (hd : decode M.2.1 pc = .ok (.aload_n q, 1)) (hl : ls[(q : Nat)]? = some (.ref x)) (kk : RnH hh G l M d P X (pc + 1) ls (.ref x :: st) hp c k) : RnH hh G l M d P X pc ls (st) hp c k := by
  intro p e s m args below meth cd mc ms H locs cells slots la C g S L h1 h2
  exact lv_aload_n C.1 C.2.1 hd rfl (lvL_get L hl rfl) (kk p e s m args below meth cd mc ms H locs cells slots la C g S L h1 h2)

theorem R_aload {i : Nat} {x : Nat} (hd : decode M.2.1 pc = .ok (.aload i, 2)) (hl : ls[i]? = some (.ref x)) (kk : RnH hh G l M d P X (pc + 2) ls (.ref x :: st) hp c k) : RnH hh G l M d P X pc ls (st) hp c k := by
  intro p e s m args below meth cd mc ms H locs cells slots la C g S L h1 h2
  exact lv_aload C.1 C.2.1 hd (lvL_get L hl rfl) (kk p e s m args below meth cd mc ms H locs cells slots la C g S L h1 h2)

theorem R_istore_n {q : Fin 4} {x : Int32} (hd : decode M.2.1 pc = .ok (.istore_n q, 1)) (hn : (q : Nat) < M.2.2.1) (ho : okS ls (q : Nat) = true) (kk : RnH hh G l M d P X (pc + 1) (ls.set (q : Nat) (.int x)) st hp c k) : RnH hh G l M d P X pc ls (.int x :: st) hp c k := by
  intro p e s m args below meth cd mc ms H locs cells slots la C g S L h1 h2
  exact lv_istore_n C.1 C.2.1 hd rfl L hn rfl (fun la' L' => kk p e s m args below meth cd mc ms H locs cells slots la' C g S (lvL_set1 (v := .int x) ho L') h1 h2)

theorem R_istore {i : Nat} {x : Int32} (hd : decode M.2.1 pc = .ok (.istore i, 2)) (hn : i < M.2.2.1) (ho : okS ls i = true) (kk : RnH hh G l M d P X (pc + 2) (ls.set i (.int x)) st hp c k) : RnH hh G l M d P X pc ls (.int x :: st) hp c k := by
  intro p e s m args below meth cd mc ms H locs cells slots la C g S L h1 h2
  exact lv_istore C.1 C.2.1 hd L hn rfl (fun la' L' => kk p e s m args below meth cd mc ms H locs cells slots la' C g S (lvL_set1 (v := .int x) ho L') h1 h2)

theorem R_lstore_n {q : Fin 4} {x : Int64} (hd : decode M.2.1 pc = .ok (.lstore_n q, 1)) (hn : (q : Nat) + 1 < M.2.2.1) (ho : okS ls (q : Nat) = true) (kk : RnH hh G l M d P X (pc + 1) ((ls.set (q : Nat) (.long x)).set ((q : Nat) + 1) U_) st hp c k) : RnH hh G l M d P X pc ls (.long x :: st) hp c k := by
  intro p e s m args below meth cd mc ms H locs cells slots la C g S L h1 h2
  exact lv_lstore_n C.1 C.2.1 hd rfl L hn rfl (fun la' L' => kk p e s m args below meth cd mc ms H locs cells slots la' C g S (lvL_set2 (v := .long x) ho L') h1 h2)

theorem R_lstore {i : Nat} {x : Int64} (hd : decode M.2.1 pc = .ok (.lstore i, 2)) (hn : i + 1 < M.2.2.1) (ho : okS ls i = true) (kk : RnH hh G l M d P X (pc + 2) ((ls.set i (.long x)).set (i + 1) U_) st hp c k) : RnH hh G l M d P X pc ls (.long x :: st) hp c k := by
  intro p e s m args below meth cd mc ms H locs cells slots la C g S L h1 h2
  exact lv_lstore C.1 C.2.1 hd L hn rfl (fun la' L' => kk p e s m args below meth cd mc ms H locs cells slots la' C g S (lvL_set2 (v := .long x) ho L') h1 h2)

theorem R_astore_n {q : Fin 4} {x : Nat} (hd : decode M.2.1 pc = .ok (.astore_n q, 1)) (hn : (q : Nat) < M.2.2.1) (ho : okS ls (q : Nat) = true) (kk : RnH hh G l M d P X (pc + 1) (ls.set (q : Nat) (.ref x)) st hp c k) : RnH hh G l M d P X pc ls (.ref x :: st) hp c k := by
  intro p e s m args below meth cd mc ms H locs cells slots la C g S L h1 h2
  exact lv_astore_n C.1 C.2.1 hd rfl L hn rfl (fun la' L' => kk p e s m args below meth cd mc ms H locs cells slots la' C g S (lvL_set1 (v := .ref x) ho L') h1 h2)

theorem R_astore {i : Nat} {x : Nat} (hd : decode M.2.1 pc = .ok (.astore i, 2)) (hn : i < M.2.2.1) (ho : okS ls i = true) (kk : RnH hh G l M d P X (pc + 2) (ls.set i (.ref x)) st hp c k) : RnH hh G l M d P X pc ls (.ref x :: st) hp c k := by
  intro p e s m args below meth cd mc ms H locs cells slots la C g S L h1 h2
  exact lv_astore C.1 C.2.1 hd L hn rfl (fun la' L' => kk p e s m args below meth cd mc ms H locs cells slots la' C g S (lvL_set1 (v := .ref x) ho L') h1 h2)

theorem R_iinc {i : Nat} {n : Int} {x v : Int32} (hd : decode M.2.1 pc = .ok (.iinc i n, 3)) (hl : ls[i]? = some (.int x)) (hv : x + Int32.ofInt n = v) (hn : i < M.2.2.1) (ho : okS ls i = true) (kk : RnH hh G l M d P X (pc + 3) (ls.set i (.int v)) st hp c k) : RnH hh G l M d P X pc ls st hp c k := by
  intro p e s m args below meth cd mc ms H locs cells slots la C g S L h1 h2
  obtain ⟨j, hj⟩ := List.mem_iff_getElem?.mp ((lvL_mem (G := G) ls 0 (i, .int x)).mpr ⟨i, .int x, hl, rfl, by simp [cv]⟩)
  exact lv_iinc C.1 C.2.1 hd L hj hv hn rfl (fun la' L' => kk p e s m args below meth cd mc ms H locs cells slots la' C g S (lvL_set1 (v := .int v) ho L') h1 h2)

theorem R_goto {off : Int} (tgt : Nat) (hd : decode M.2.1 pc = .ok (.goto off, 3)) (ht : (pc : Int) + off = (tgt : Int)) (kk : RnH hh G l M d P X tgt ls st hp c k) : RnH hh G l M d P X pc ls st hp c k := by
  intro p e s m args below meth cd mc ms H locs cells slots la C g S L h1 h2
  exact lv_goto C.1 C.2.1 hd ht (kk p e s m args below meth cd mc ms H locs cells slots la C g S L h1 h2)

theorem R_icmp_eq {x y : Int32} {off : Int} (tgt : Nat) (hd : decode M.2.1 pc = .ok (.if_icmp .eq off, 3)) (ht : (pc : Int) + off = (tgt : Int)) (kt : (x = y) → RnH hh G l M d P X tgt ls st hp c k) (kf : ¬ (x = y) → RnH hh G l M d P X (pc + 3) ls st hp c k) : RnH hh G l M d P X pc ls (.int y :: .int x :: st) hp c k := by
  intro p e s m args below meth cd mc ms H locs cells slots la C g S L h1 h2
  exact lv_icmp_eq C.1 C.2.1 hd ht (fun q => kt q p e s m args below meth cd mc ms H locs cells slots la C g S L h1 h2) (fun q => kf q p e s m args below meth cd mc ms H locs cells slots la C g S L h1 h2)

theorem R_if_eq {x : Int32} {off : Int} (tgt : Nat) (hd : decode M.2.1 pc = .ok (.ifCond .eq off, 3)) (ht : (pc : Int) + off = (tgt : Int)) (kt : (x = 0) → RnH hh G l M d P X tgt ls st hp c k) (kf : ¬ (x = 0) → RnH hh G l M d P X (pc + 3) ls st hp c k) : RnH hh G l M d P X pc ls (.int x :: st) hp c k := by
  intro p e s m args below meth cd mc ms H locs cells slots la C g S L h1 h2
  exact lv_if_eq C.1 C.2.1 hd ht (fun q => kt q p e s m args below meth cd mc ms H locs cells slots la C g S L h1 h2) (fun q => kf q p e s m args below meth cd mc ms H locs cells slots la C g S L h1 h2)

theorem R_icmp_ne {x y : Int32} {off : Int} (tgt : Nat) (hd : decode M.2.1 pc = .ok (.if_icmp .ne off, 3)) (ht : (pc : Int) + off = (tgt : Int)) (kt : (x ≠ y) → RnH hh G l M d P X tgt ls st hp c k) (kf : x = y → RnH hh G l M d P X (pc + 3) ls st hp c k) : RnH hh G l M d P X pc ls (.int y :: .int x :: st) hp c k := by
  intro p e s m args below meth cd mc ms H locs cells slots la C g S L h1 h2
  exact lv_icmp_ne C.1 C.2.1 hd ht (fun q => kt q p e s m args below meth cd mc ms H locs cells slots la C g S L h1 h2) (fun q => kf q p e s m args below meth cd mc ms H locs cells slots la C g S L h1 h2)

theorem R_if_ne {x : Int32} {off : Int} (tgt : Nat) (hd : decode M.2.1 pc = .ok (.ifCond .ne off, 3)) (ht : (pc : Int) + off = (tgt : Int)) (kt : (x ≠ 0) → RnH hh G l M d P X tgt ls st hp c k) (kf : x = 0 → RnH hh G l M d P X (pc + 3) ls st hp c k) : RnH hh G l M d P X pc ls (.int x :: st) hp c k := by
  intro p e s m args below meth cd mc ms H locs cells slots la C g S L h1 h2
  exact lv_if_ne C.1 C.2.1 hd ht (fun q => kt q p e s m args below meth cd mc ms H locs cells slots la C g S L h1 h2) (fun q => kf q p e s m args below meth cd mc ms H locs cells slots la C g S L h1 h2)

theorem R_icmp_lt {x y : Int32} {off : Int} (tgt : Nat) (hd : decode M.2.1 pc = .ok (.if_icmp .lt off, 3)) (ht : (pc : Int) + off = (tgt : Int)) (kt : (x < y) → RnH hh G l M d P X tgt ls st hp c k) (kf : ¬ (x < y) → RnH hh G l M d P X (pc + 3) ls st hp c k) : RnH hh G l M d P X pc ls (.int y :: .int x :: st) hp c k := by
  intro p e s m args below meth cd mc ms H locs cells slots la C g S L h1 h2
  exact lv_icmp_lt C.1 C.2.1 hd ht (fun q => kt q p e s m args below meth cd mc ms H locs cells slots la C g S L h1 h2) (fun q => kf q p e s m args below meth cd mc ms H locs cells slots la C g S L h1 h2)

theorem R_if_lt {x : Int32} {off : Int} (tgt : Nat) (hd : decode M.2.1 pc = .ok (.ifCond .lt off, 3)) (ht : (pc : Int) + off = (tgt : Int)) (kt : (x < 0) → RnH hh G l M d P X tgt ls st hp c k) (kf : ¬ (x < 0) → RnH hh G l M d P X (pc + 3) ls st hp c k) : RnH hh G l M d P X pc ls (.int x :: st) hp c k := by
  intro p e s m args below meth cd mc ms H locs cells slots la C g S L h1 h2
  exact lv_if_lt C.1 C.2.1 hd ht (fun q => kt q p e s m args below meth cd mc ms H locs cells slots la C g S L h1 h2) (fun q => kf q p e s m args below meth cd mc ms H locs cells slots la C g S L h1 h2)

theorem R_icmp_ge {x y : Int32} {off : Int} (tgt : Nat) (hd : decode M.2.1 pc = .ok (.if_icmp .ge off, 3)) (ht : (pc : Int) + off = (tgt : Int)) (kt : (y ≤ x) → RnH hh G l M d P X tgt ls st hp c k) (kf : ¬ (y ≤ x) → RnH hh G l M d P X (pc + 3) ls st hp c k) : RnH hh G l M d P X pc ls (.int y :: .int x :: st) hp c k := by
  intro p e s m args below meth cd mc ms H locs cells slots la C g S L h1 h2
  exact lv_icmp_ge C.1 C.2.1 hd ht (fun q => kt q p e s m args below meth cd mc ms H locs cells slots la C g S L h1 h2) (fun q => kf q p e s m args below meth cd mc ms H locs cells slots la C g S L h1 h2)

theorem R_if_ge {x : Int32} {off : Int} (tgt : Nat) (hd : decode M.2.1 pc = .ok (.ifCond .ge off, 3)) (ht : (pc : Int) + off = (tgt : Int)) (kt : (0 ≤ x) → RnH hh G l M d P X tgt ls st hp c k) (kf : ¬ (0 ≤ x) → RnH hh G l M d P X (pc + 3) ls st hp c k) : RnH hh G l M d P X pc ls (.int x :: st) hp c k := by
  intro p e s m args below meth cd mc ms H locs cells slots la C g S L h1 h2
  exact lv_if_ge C.1 C.2.1 hd ht (fun q => kt q p e s m args below meth cd mc ms H locs cells slots la C g S L h1 h2) (fun q => kf q p e s m args below meth cd mc ms H locs cells slots la C g S L h1 h2)

theorem R_icmp_gt {x y : Int32} {off : Int} (tgt : Nat) (hd : decode M.2.1 pc = .ok (.if_icmp .gt off, 3)) (ht : (pc : Int) + off = (tgt : Int)) (kt : (y < x) → RnH hh G l M d P X tgt ls st hp c k) (kf : ¬ (y < x) → RnH hh G l M d P X (pc + 3) ls st hp c k) : RnH hh G l M d P X pc ls (.int y :: .int x :: st) hp c k := by
  intro p e s m args below meth cd mc ms H locs cells slots la C g S L h1 h2
  exact lv_icmp_gt C.1 C.2.1 hd ht (fun q => kt q p e s m args below meth cd mc ms H locs cells slots la C g S L h1 h2) (fun q => kf q p e s m args below meth cd mc ms H locs cells slots la C g S L h1 h2)

theorem R_if_gt {x : Int32} {off : Int} (tgt : Nat) (hd : decode M.2.1 pc = .ok (.ifCond .gt off, 3)) (ht : (pc : Int) + off = (tgt : Int)) (kt : (0 < x) → RnH hh G l M d P X tgt ls st hp c k) (kf : ¬ (0 < x) → RnH hh G l M d P X (pc + 3) ls st hp c k) : RnH hh G l M d P X pc ls (.int x :: st) hp c k := by
  intro p e s m args below meth cd mc ms H locs cells slots la C g S L h1 h2
  exact lv_if_gt C.1 C.2.1 hd ht (fun q => kt q p e s m args below meth cd mc ms H locs cells slots la C g S L h1 h2) (fun q => kf q p e s m args below meth cd mc ms H locs cells slots la C g S L h1 h2)

theorem R_icmp_le {x y : Int32} {off : Int} (tgt : Nat) (hd : decode M.2.1 pc = .ok (.if_icmp .le off, 3)) (ht : (pc : Int) + off = (tgt : Int)) (kt : (x ≤ y) → RnH hh G l M d P X tgt ls st hp c k) (kf : ¬ (x ≤ y) → RnH hh G l M d P X (pc + 3) ls st hp c k) : RnH hh G l M d P X pc ls (.int y :: .int x :: st) hp c k := by
  intro p e s m args below meth cd mc ms H locs cells slots la C g S L h1 h2
  exact lv_icmp_le C.1 C.2.1 hd ht (fun q => kt q p e s m args below meth cd mc ms H locs cells slots la C g S L h1 h2) (fun q => kf q p e s m args below meth cd mc ms H locs cells slots la C g S L h1 h2)

theorem R_if_le {x : Int32} {off : Int} (tgt : Nat) (hd : decode M.2.1 pc = .ok (.ifCond .le off, 3)) (ht : (pc : Int) + off = (tgt : Int)) (kt : (x ≤ 0) → RnH hh G l M d P X tgt ls st hp c k) (kf : ¬ (x ≤ 0) → RnH hh G l M d P X (pc + 3) ls st hp c k) : RnH hh G l M d P X pc ls (.int x :: st) hp c k := by
  intro p e s m args below meth cd mc ms H locs cells slots la C g S L h1 h2
  exact lv_if_le C.1 C.2.1 hd ht (fun q => kt q p e s m args below meth cd mc ms H locs cells slots la C g S L h1 h2) (fun q => kf q p e s m args below meth cd mc ms H locs cells slots la C g S L h1 h2)

theorem R_lcmp {x y : Int64} (hd : decode M.2.1 pc = .ok (.lcmp, 1)) (kk : RnH hh G l M d P X (pc + 1) ls (.int (lg_cmp x y) :: st) hp c k) : RnH hh G l M d P X pc ls (.long y :: .long x :: st) hp c k := by
  intro p e s m args below meth cd mc ms H locs cells slots la C g S L h1 h2
  exact W.lcmp C.1 C.2.1 hd (kk p e s m args below meth cd mc ms H locs cells slots la C g S L h1 h2)
theorem R_tabIn {dflt lo hi off : Int} {offs : Array Int} {len : Nat} {x : Int32} (tgt : Nat) (hd : decode M.2.1 pc = .ok (.tableswitch dflt lo hi offs, len)) (a1 : ¬ x.toInt < lo) (a2 : ¬ hi < x.toInt) (ho : offs[(x.toInt - lo).toNat]? = some off) (ht : (pc : Int) + off = (tgt : Int)) (kk : RnH hh G l M d P X tgt ls st hp c k) : RnH hh G l M d P X pc ls (.int x :: st) hp c k := by
  intro p e s m args below meth cd mc ms H locs cells slots la C g S L h1 h2
  exact lv_tableIn C.1 C.2.1 hd a1 a2 ho ht (kk p e s m args below meth cd mc ms H locs cells slots la C g S L h1 h2)
theorem R_tabOut {dflt lo hi : Int} {offs : Array Int} {len : Nat} {x : Int32} (tgt : Nat) (hd : decode M.2.1 pc = .ok (.tableswitch dflt lo hi offs, len)) (a1 : x.toInt < lo ∨ hi < x.toInt) (ht : (pc : Int) + dflt = (tgt : Int)) (kk : RnH hh G l M d P X tgt ls st hp c k) : RnH hh G l M d P X pc ls (.int x :: st) hp c k := by
  intro p e s m args below meth cd mc ms H locs cells slots la C g S L h1 h2
  exact lv_tableOut C.1 C.2.1 hd a1 ht (kk p e s m args below meth cd mc ms H locs cells slots la C g S L h1 h2)
theorem R_lookup {dflt off : Int} {ps : Array (Int × Int)} {len : Nat} {x : Int32} (tgt : Nat) (hd : decode M.2.1 pc = .ok (.lookupswitch dflt ps, len)) (hs : (ps.toList.zip (ps.toList.drop 1)).all (fun (a, next) => a.1 < next.1) = true) (ho : Op.lookupswitch.offset ps.toList dflt x.toInt = off) (ht : (pc : Int) + off = (tgt : Int)) (kk : RnH hh G l M d P X tgt ls st hp c k) : RnH hh G l M d P X pc ls (.int x :: st) hp c k := by
  intro p e s m args below meth cd mc ms H locs cells slots la C g S L h1 h2
  exact lv_lookup C.1 C.2.1 hd hs ho ht (kk p e s m args below meth cd mc ms H locs cells slots la C g S L h1 h2)
/-- more room than is owed -/
theorem R_room {c' k' : Nat} (hc : c' ≤ c) (hk : k' ≤ k) (kk : RnH hh G l M d P X pc ls st hp c' k') : RnH hh G l M d P X pc ls st hp c k := by
  intro p e s m args below meth cd mc ms H locs cells slots la C g S L h1 h2
  exact kk p e s m args below meth cd mc ms H locs cells slots la C g S L (by omega) (by omega)
/-! fields -/
/-- the constant pool's entry index of own is the field fk of the class ci -/
def Fl (own : String) (index ci fk : Nat) : Prop := ∃ (C : String) (T : u_T) (N : Nat), clA[ci]? = some (C, T, N) ∧ fk < N ∧ Cond.fieldLink own index (T fk).1 (T fk).2.1 (T fk).2.2.1 ∈ lw_all ∧ ∀ w ∈ u_ws C T N, w ∈ lw_all
theorem GoodP.one (g : GoodP G hp H) {a : Nat} (ha : a < hp.2) {e : va_E} (he : hp.1 a = e) (hne : e ≠ dead) : va_P G.2.1 clA [(G.1 a, ce G e)] H := by
  intro j q hj
  cases j with
  | zero => cases hj; rw [← he]; exact g.2.2 a ha (by rw [he]; exact hne)
  | succ j => cases hj
theorem R_get {index ci fk a : Nat} {fs : List Value} {v : Value} (hd : decode M.2.1 pc = .ok (.getfield index, 3)) (hf : Fl M.1.cls index ci fk) (ha : a < hp.2) (he : hp.1 a = .inr (ci, fs)) (hv : fs[fk]? = some v) (kk : RnH hh G l M d P X (pc + 3) ls (v :: st) hp c k) : RnH hh G l M d P X pc ls (.ref a :: st) hp c k := by
  intro p e s m args below meth cd mc ms H locs cells slots la C g S L h1 h2
  obtain ⟨C9, T, N, hcl, hN, hq, hin⟩ := hf
  exact va_get (D := G.2.1) (cl := clA) (ci := ci) (v := cv G v) C.1 C.2.1 C.2.2.2.2.2.2.1 hin C.2.2.2.2.2.1 C.2.2.2.2.2.2.2.1.2.1 (g.one ha he (ne_c hcl)) 0 rfl hcl fk hN (C.2.2.2.2.2.2.1 _ hq) (fun _ h9 => h9) (by rw [List.getElem?_map, hv]; rfl) hd (kk p e s m args below meth cd mc ms H locs cells slots la C g S L h1 h2)
theorem GoodP.set (W0 : GoodW G) (g : GoodP G hp H) {a : Nat} (hK : K0 ≤ a) {e : va_E} {H1 : Heap} (he : va_at G.2.1 clA (G.1 a, ce G e) H1) (z : H1.size = H.size) (oq : ∀ q, q ≠ G.1 a → H1[q]? = H[q]?) : GoodP G (hset hp a e) H1 := by
  refine ⟨g.1, by rw [z]; exact g.2.1, fun i hi hn => ?_⟩
  by_cases h : i = a
  · subst h
    show va_at G.2.1 clA (G.1 i, ce G (if i = i then e else hp.1 i)) H1
    rw [if_pos rfl]; exact he
  · show va_at G.2.1 clA (G.1 i, ce G (if i = a then e else hp.1 i)) H1
    have hn' : (if i = a then e else hp.1 i) ≠ dead := hn
    rw [if_neg h] at hn' ⊢
    exact (g.2.2 i hi hn').kept (oq _ (fun q => h (W0.1 _ _ hK q)))
theorem aA_of (W0 : GoodW G) {a : Nat} (h : K0 ≤ a) : aA G (G.1 a) := by
  have := W0.2.1 (a - K0)
  rw [show K0 + (a - K0) = a by omega] at this
  show G.1 K0 ≤ G.1 a
  omega
/-- the field's type is known -/
def Ft (ci fk : Nat) (ty : FieldType) (fin : Bool) : Prop := ∃ (C : String) (T : u_T) (N : Nat) (ty0 : Nat → FieldType), clA[ci]? = some (C, T, N) ∧ (∀ j, j < N → parseFieldDescriptor (T j).2.2.1 = some (ty0 j)) ∧ (∀ a, a < N → ∀ b, b < N → a ≠ b → (T a).2.1 ≠ (T b).2.1) ∧ parseFieldDescriptor (T fk).2.2.1 = some ty ∧ (T fk).2.2.2 = fin
theorem cv_nar {ty : FieldType} {v : Value} (h : narrow ty v = v) : narrow ty (cv G v) = cv G v := by
  cases v <;> first | exact h | (cases ty <;> rfl)
theorem cv_fit {ty : FieldType} {v : Value} (h : fits ty v = true) : fits ty (cv G v) = true := by
  cases v <;> first | exact h | (cases ty <;> first | rfl | exact h)
theorem R_put {index ci fk a : Nat} {fs : List Value} {v : Value} {ty : FieldType} (hd : decode M.2.1 pc = .ok (.putfield index, 3)) (hf : Fl M.1.cls index ci fk) (ht : Ft ci fk ty false) (hn : narrow ty v = v) (hfit : fits ty v = true) (ha : a < hp.2) (hK : K0 ≤ a) (he : hp.1 a = .inr (ci, fs)) (hl : fk < fs.length) (kk : RnH hh G l M d P X (pc + 3) ls st (hset hp a (.inr (ci, fs.set fk v))) c k) : RnH hh G l M d P X pc ls (v :: .ref a :: st) hp c k := by
  intro p e s m args below meth cd mc ms H locs cells slots la C g S L h1 h2
  obtain ⟨C9, T, N, hcl, hN, hq, hin⟩ := hf
  obtain ⟨C8, T8, N8, ty0, hcl8, hty, hnm, hdt, hfin⟩ := ht
  cases Option.some.inj (hcl8.symm.trans hcl)
  have hts := C.2.2.2.2.2.2.1
  have hown := C.2.2.2.2.2.1
  have hK0 := C.2.2.2.2.2.2.2.1.2.1
  have W0 := C.2.2.2.2.2.2.2.1.1
  have hap := va_apart (own := M.1.cls) hts hin ty0 hty hnm hK0 hcl
  obtain ⟨r, e1, cell, q1, q2, q3, q4⟩ := (g.one ha he (ne_c hcl)) 0 _ rfl
  have hr : r = (C9, T, N) := Option.some.inj (e1.symm.trans hcl)
  subst hr
  obtain ⟨hS, hfc, kC, hkC, hkind⟩ := hK0.1 ci _ hcl
  obtain ⟨cf, kf, fi, f, hi, hsl⟩ := hS fk hN
  have hlay := hts _ (hin _ (u_in_lay hN))
  unfold u_lay at hlay
  rw [if_neg (by rw [hfin]; decide)] at hlay
  have hst := (u_facts hfc hkC (u_lays hts hin hN) hi).1
  have h6 := u_store hfc hkC hkind hlay hi hdt (cv_nar (G := G) hn) (cv_fit (G := G) hfit)
  refine W.putK C.1 C.2.1 (f := f) ⟨hown, hts _ hq, ⟨_, _, _, hi⟩, hst⟩ (by rw [q2]; exact h6) q1 q3 (by rw [hsl]; exact k2_hasslot (q4 fk hN)) rfl rfl hd fun H' e1 e2 e3 => ?_
  rw [hsl] at e1
  have hv : va_at G.2.1 clA (G.1 a, ce G (.inr (ci, fs.set fk v))) H' := ⟨_, hcl, t_OB.to (V := updV (vp_V (fs.map (cv G))) fk (cv G v)) ⟨_, e1, q2, q3, t_set q4 hap hN (cv G v)⟩ (fun j _ => by rw [vp_updV_set (by rw [List.length_map]; exact hl)]; rw [List.map_set])⟩
  exact kk p e s m args below meth cd mc ms H' _ cells slots la C (g.set W0 hK hv e2 e3) (S.put e2 e3 (aA_of W0 hK)) L h1 h2
theorem R_putF {index ci fk a : Nat} {fs : List Value} {v : Value} {ty : FieldType} (hd : decode M.2.1 pc = .ok (.putfield index, 3)) (hf : Fl M.1.cls index ci fk) (hcls : (clA[ci]?).map (fun q => (q.2.1 fk).1) = some M.1.cls) (hi0 : M.1.name = "<init>") (ht : Ft ci fk ty true) (hn : narrow ty v = v) (hfit : fits ty v = true) (ha : a < hp.2) (hK : K0 ≤ a) (he : hp.1 a = .inr (ci, fs)) (hl : fk < fs.length) (kk : RnH hh G l M d P X (pc + 3) ls st (hset hp a (.inr (ci, fs.set fk v))) c k) : RnH hh G l M d P X pc ls (v :: .ref a :: st) hp c k := by
  intro p e s m args below meth cd mc ms H locs cells slots la C g S L h1 h2
  obtain ⟨C9, T, N, hcl, hN, hq, hin⟩ := hf
  obtain ⟨C8, T8, N8, ty0, hcl8, hty, hnm, hdt, hfin⟩ := ht
  cases Option.some.inj (hcl8.symm.trans hcl)
  rw [hcl] at hcls
  have hdecl : (T fk).1 = M.1.cls := by simpa using hcls
  have hts := C.2.2.2.2.2.2.1
  have hown := C.2.2.2.2.2.1
  have hK0 := C.2.2.2.2.2.2.2.1.2.1
  have W0 := C.2.2.2.2.2.2.2.1.1
  have hap := va_apart (own := M.1.cls) hts hin ty0 hty hnm hK0 hcl
  obtain ⟨r, e1, cell, q1, q2, q3, q4⟩ := (g.one ha he (ne_c hcl)) 0 _ rfl
  have hr : r = (C9, T, N) := Option.some.inj (e1.symm.trans hcl)
  subst hr
  obtain ⟨hS, hfc, kC, hkC, hkind⟩ := hK0.1 ci _ hcl
  obtain ⟨cf, kf, fi, f, hi, hsl⟩ := hS fk hN
  have hlay := hts _ (hin _ (u_in_lay hN))
  unfold u_lay at hlay
  rw [if_pos hfin] at hlay
  have hst := (u_facts hfc hkC (u_lays hts hin hN) hi).1
  have hcf : m.cls = cf := by
    obtain ⟨_, _, c', _, _, _, -, -, hf', -, -, -, hown2, -⟩ := Cond.laysFinal_spec hlay
    have e1 : c' = cf := by have := hi.symm.trans hf'; simp at this; exact this.1.symm
    rw [hdecl] at hown2
    rw [← e1]; exact Option.some.inj (hown.symm.trans hown2)
  have h6 := u_fits hfc hkC hkind (Or.inr hlay) hi hdt (cv_nar (G := G) hn) (cv_fit (G := G) hfit)
  refine W.putFinK C.1 C.2.1 hown (hts _ hq) hi hst hcf (C.2.2.2.2.2.2.2.2.2.trans hi0) (by rw [q2]; exact h6) q1 q3 (by rw [hsl]; exact k2_hasslot (q4 fk hN)) rfl rfl hd fun H' e1 e2 e3 => ?_
  rw [hsl] at e1
  have hv : va_at G.2.1 clA (G.1 a, ce G (.inr (ci, fs.set fk v))) H' := ⟨_, hcl, t_OB.to (V := updV (vp_V (fs.map (cv G))) fk (cv G v)) ⟨_, e1, q2, q3, t_set q4 hap hN (cv G v)⟩ (fun j _ => by rw [vp_updV_set (by rw [List.length_map]; exact hl)]; rw [List.map_set])⟩
  exact kk p e s m args below meth cd mc ms H' _ cells slots la C (g.set W0 hK hv e2 e3) (S.put e2 e3 (aA_of W0 hK)) L h1 h2
/-! arrays -/
theorem R_iald {a n : Nat} {f : Nat → Int32} {i : Int32} (hd : decode M.2.1 pc = .ok (.iaload, 1)) (ha : a < hp.2) (he : hp.1 a = .inl (0, n, .inl f)) (hin : vp_in i n) (kk : RnH hh G l M d P X (pc + 1) ls (.int (f i.toNatClampNeg) :: st) hp c k) : RnH hh G l M d P X pc ls (.int i :: .ref a :: st) hp c k := by
  intro p e s m args below meth cd mc ms H locs cells slots la C g S L h1 h2
  exact va_iald C.1 C.2.1 C.2.2.2.2.2.2.2.1.2.1 (g.one ha he ne_a) 0 0 rfl rfl hin hd (kk p e s m args below meth cd mc ms H locs cells slots la C g S L h1 h2)
theorem R_zald {a n : Nat} {f : Nat → Int32} {i : Int32} (hd : decode M.2.1 pc = .ok (.baload, 1)) (ha : a < hp.2) (he : hp.1 a = .inl (1, n, .inl f)) (hin : vp_in i n) (kk : RnH hh G l M d P X (pc + 1) ls (.int (f i.toNatClampNeg) :: st) hp c k) : RnH hh G l M d P X pc ls (.int i :: .ref a :: st) hp c k := by
  intro p e s m args below meth cd mc ms H locs cells slots la C g S L h1 h2
  exact va_zald C.1 C.2.1 C.2.2.2.2.2.2.2.1.2.1 (g.one ha he ne_a) 0 1 rfl rfl hin hd (kk p e s m args below meth cd mc ms H locs cells slots la C g S L h1 h2)
theorem R_bald {a n : Nat} {f : Nat → Int32} {i : Int32} (hd : decode M.2.1 pc = .ok (.baload, 1)) (ha : a < hp.2) (he : hp.1 a = .inl (2, n, .inl f)) (hin : vp_in i n) (kk : RnH hh G l M d P X (pc + 1) ls (.int (f i.toNatClampNeg) :: st) hp c k) : RnH hh G l M d P X pc ls (.int i :: .ref a :: st) hp c k := by
  intro p e s m args below meth cd mc ms H locs cells slots la C g S L h1 h2
  exact va_bald C.1 C.2.1 C.2.2.2.2.2.2.2.1.2.1 (g.one ha he ne_a) 0 2 rfl rfl hin hd (kk p e s m args below meth cd mc ms H locs cells slots la C g S L h1 h2)
theorem R_lald {a n : Nat} {f : Nat → Int64} {i : Int32} (hd : decode M.2.1 pc = .ok (.laload, 1)) (ha : a < hp.2) (he : hp.1 a = .inl (3, n, .inr (.inl f))) (hin : vp_in i n) (kk : RnH hh G l M d P X (pc + 1) ls (.long (f i.toNatClampNeg) :: st) hp c k) : RnH hh G l M d P X pc ls (.int i :: .ref a :: st) hp c k := by
  intro p e s m args below meth cd mc ms H locs cells slots la C g S L h1 h2
  exact va_lald C.1 C.2.1 C.2.2.2.2.2.2.2.1.2.1 (g.one ha he ne_a) 0 3 rfl rfl hin hd (kk p e s m args below meth cd mc ms H locs cells slots la C g S L h1 h2)
theorem R_iast {a n : Nat} {f : Nat → Int32} {i x : Int32} (hd : decode M.2.1 pc = .ok (.iastore, 1)) (ha : a < hp.2) (hK : K0 ≤ a) (he : hp.1 a = .inl (0, n, .inl f)) (hin : vp_in i n) (kk : RnH hh G l M d P X (pc + 1) ls st (hset hp a (.inl (0, n, .inl (upd f i.toNatClampNeg x)))) c k) : RnH hh G l M d P X pc ls (.int x :: .int i :: .ref a :: st) hp c k := by
  intro p e s m args below meth cd mc ms H locs cells slots la C g S L h1 h2
  have W0 := C.2.2.2.2.2.2.2.1.1
  have hK0 := C.2.2.2.2.2.2.2.1.2.1
  have hc9 : H[G.1 a]? = some (arrV (G.2.2.1 0) n (fun j => .int (f j))) := (g.one ha he ne_a) 0 _ rfl
  have hk9 : (tysA G)[0]? = some (G.2.2.1 0, .int) := rfl
  refine W.iast C.1 C.2.1 hc9 ((hK0.2 0 _ hk9).1 n (fun j => .int (f j))) (fun q => by cases q) (by show ¬ (i < 0 ∨ (arrV _ _ _).slots.size ≤ _); rw [arrV_size]; exact hin) rfl rfl hd fun H1 e1 z oq => ?_
  refine kk p e s m args below meth cd mc ms H1 _ cells slots la C (g.set W0 hK ?_ z oq) (S.put z oq (aA_of W0 hK)) L h1 h2
  show H1[G.1 a]? = some (arrV (G.2.2.1 0) n (fun j => .int (upd f i.toNatClampNeg x j)))
  rw [e1]
  rw [arrV_store]
  congr 2
  funext q
  by_cases hq : q = i.toNatClampNeg
  · subst hq
    simp [updV, upd]
  · simp [updV, upd, hq]
theorem R_zast {a n : Nat} {f : Nat → Int32} {i x : Int32} (hd : decode M.2.1 pc = .ok (.bastore, 1)) (hx : narrow .boolean (.int x) = .int x) (ha : a < hp.2) (hK : K0 ≤ a) (he : hp.1 a = .inl (1, n, .inl f)) (hin : vp_in i n) (kk : RnH hh G l M d P X (pc + 1) ls st (hset hp a (.inl (1, n, .inl (upd f i.toNatClampNeg x)))) c k) : RnH hh G l M d P X pc ls (.int x :: .int i :: .ref a :: st) hp c k := by
  intro p e s m args below meth cd mc ms H locs cells slots la C g S L h1 h2
  have W0 := C.2.2.2.2.2.2.2.1.1
  have hK0 := C.2.2.2.2.2.2.2.1.2.1
  have hc9 : H[G.1 a]? = some (arrV (G.2.2.1 1) n (fun j => .int (f j))) := (g.one ha he ne_a) 0 _ rfl
  have hk9 : (tysA G)[1]? = some (G.2.2.1 1, .boolean) := rfl
  refine W.zast C.1 C.2.1 hc9 ((hK0.2 1 _ hk9).1 n (fun j => .int (f j))) (fun q => by cases q) (by show ¬ (i < 0 ∨ (arrV _ _ _).slots.size ≤ _); rw [arrV_size]; exact hin) rfl rfl hd fun H1 e1 z oq => ?_
  refine kk p e s m args below meth cd mc ms H1 _ cells slots la C (g.set W0 hK ?_ z oq) (S.put z oq (aA_of W0 hK)) L h1 h2
  show H1[G.1 a]? = some (arrV (G.2.2.1 1) n (fun j => .int (upd f i.toNatClampNeg x j)))
  rw [e1, hx]
  rw [arrV_store]
  congr 2
  funext q
  by_cases hq : q = i.toNatClampNeg
  · subst hq
    simp [updV, upd]
  · simp [updV, upd, hq]
theorem R_bast {a n : Nat} {f : Nat → Int32} {i x : Int32} (hd : decode M.2.1 pc = .ok (.bastore, 1)) (hx : narrow .byte (.int x) = .int x) (ha : a < hp.2) (hK : K0 ≤ a) (he : hp.1 a = .inl (2, n, .inl f)) (hin : vp_in i n) (kk : RnH hh G l M d P X (pc + 1) ls st (hset hp a (.inl (2, n, .inl (upd f i.toNatClampNeg x)))) c k) : RnH hh G l M d P X pc ls (.int x :: .int i :: .ref a :: st) hp c k := by
  intro p e s m args below meth cd mc ms H locs cells slots la C g S L h1 h2
  have W0 := C.2.2.2.2.2.2.2.1.1
  have hK0 := C.2.2.2.2.2.2.2.1.2.1
  have hc9 : H[G.1 a]? = some (arrV (G.2.2.1 2) n (fun j => .int (f j))) := (g.one ha he ne_a) 0 _ rfl
  have hk9 : (tysA G)[2]? = some (G.2.2.1 2, .byte) := rfl
  refine W.bast C.1 C.2.1 hc9 ((hK0.2 2 _ hk9).1 n (fun j => .int (f j))) (fun q => by cases q) (by show ¬ (i < 0 ∨ (arrV _ _ _).slots.size ≤ _); rw [arrV_size]; exact hin) rfl rfl hd fun H1 e1 z oq => ?_
  refine kk p e s m args below meth cd mc ms H1 _ cells slots la C (g.set W0 hK ?_ z oq) (S.put z oq (aA_of W0 hK)) L h1 h2
  show H1[G.1 a]? = some (arrV (G.2.2.1 2) n (fun j => .int (upd f i.toNatClampNeg x j)))
  rw [e1, hx]
  rw [arrV_store]
  congr 2
  funext q
  by_cases hq : q = i.toNatClampNeg
  · subst hq
    simp [updV, upd]
  · simp [updV, upd, hq]
theorem R_last {a n : Nat} {f : Nat → Int64} {i : Int32} {x : Int64} (hd : decode M.2.1 pc = .ok (.lastore, 1)) (ha : a < hp.2) (hK : K0 ≤ a) (he : hp.1 a = .inl (3, n, .inr (.inl f))) (hin : vp_in i n) (kk : RnH hh G l M d P X (pc + 1) ls st (hset hp a (.inl (3, n, .inr (.inl (vp_updL f i.toNatClampNeg x))))) c k) : RnH hh G l M d P X pc ls (.long x :: .int i :: .ref a :: st) hp c k := by
  intro p e s m args below meth cd mc ms H locs cells slots la C g S L h1 h2
  have W0 := C.2.2.2.2.2.2.2.1.1
  have hK0 := C.2.2.2.2.2.2.2.1.2.1
  have hc9 : H[G.1 a]? = some (arrV (G.2.2.1 3) n (fun j => .long (f j))) := (g.one ha he ne_a) 0 _ rfl
  have hk9 : (tysA G)[3]? = some (G.2.2.1 3, .long) := rfl
  refine W.last C.1 C.2.1 hc9 ((hK0.2 3 _ hk9).1 n (fun j => .long (f j))) (fun q => by cases q) (by show ¬ (i < 0 ∨ (arrV _ _ _).slots.size ≤ _); rw [arrV_size]; exact hin) rfl rfl hd fun H1 e1 z oq => ?_
  refine kk p e s m args below meth cd mc ms H1 _ cells slots la C (g.set W0 hK ?_ z oq) (S.put z oq (aA_of W0 hK)) L h1 h2
  show H1[G.1 a]? = some (arrV (G.2.2.1 3) n (fun j => .long (vp_updL f i.toNatClampNeg x j)))
  rw [e1]
  rw [arrV_store]
  congr 2
  funext q
  by_cases hq : q = i.toNatClampNeg
  · subst hq
    simp [updV, vp_updL]
  · simp [updV, vp_updL, hq]
/-! ends -/
theorem xMQ_of {p : Program} {e : Env} {R : Room} {s : State} {m : MethodId} {args : Array Value} {below : List Frame} {meth : Method} {cd : Code} {H : Heap} {locs : List Loc} {cells slots mc ms : Nat} {g : JFrame}
    (kk : W p l e R s m args below meth cd H locs cells slots (MQ below (Qn G P) args s mc ms (aA G)) g) : W p l e R s m args below meth cd H locs cells slots (xMQ G P X below s mc ms) g := by
  intro T hT Y
  obtain ⟨t, a1, o, b1, b2, b3, b4⟩ := kk T hT Y
  exact ⟨t, a1, o, b1, b2, Or.inl ⟨b3, b4⟩⟩
theorem R_iret {v : Int32} {ty : FieldType} (hd : decode M.2.1 pc = .ok (.ireturn, 1)) (hr : M.2.2.2 = some ty) (hn : narrow ty (.int v) = .int v) (hP : P (some (.int v)) hp) : RnH hh G l M d P X pc ls [.int v] hp c k := by
  intro p e s m args below meth cd mc ms H locs cells slots la C g S L h1 h2
  refine W.widen (k := mc) (n := ms) (by omega) (by omega) (xMQ_of ?_)
  exact W.zret (Qc := Qn G P) (free := aA G) (v := v) C.1 C.2.1 (C.2.2.2.1.trans hr) hn (fun t ht hW => ⟨⟨some (.int v), hp, rfl, hP, by rw [ht]; exact g⟩, S.F ht⟩) S.2.2 hd C.2.2.2.2.1
theorem R_lret {v : Int64} (hd : decode M.2.1 pc = .ok (.lreturn, 1)) (hr : M.2.2.2 = some .long) (hP : P (some (.long v)) hp) : RnH hh G l M d P X pc ls [.long v] hp c k := by
  intro p e s m args below meth cd mc ms H locs cells slots la C g S L h1 h2
  refine W.widen (k := mc) (n := ms) (by omega) (by omega) (xMQ_of ?_)
  exact W.lret (Qc := Qn G P) (free := aA G) (v := v) C.1 C.2.1 (C.2.2.2.1.trans hr) (fun t ht hW => ⟨⟨some (.long v), hp, rfl, hP, by rw [ht]; exact g⟩, S.F ht⟩) S.2.2 hd C.2.2.2.2.1
theorem R_aret {v : Value} {ty : FieldType} (hd : decode M.2.1 pc = .ok (.areturn, 1)) (hr : M.2.2.2 = some ty) (hrt : (∃ n, ty = .object n) ∨ ∃ t, ty = .array t) (hv : v = .null ∨ ∃ a, v = .ref a) (hP : P (some v) hp) : RnH hh G l M d P X pc ls [v] hp c k := by
  intro p e s m args below meth cd mc ms H locs cells slots la C g S L h1 h2
  refine W.widen (k := mc) (n := ms) (by omega) (by omega) (xMQ_of ?_)
  exact W.aret (Qc := Qn G P) (free := aA G) (v := cv G v) C.1 C.2.1 (C.2.2.2.1.trans hr) hrt (by rcases hv with h | ⟨a, h⟩ <;> subst h <;> simp [cv]) (fun t ht hW => ⟨⟨some v, hp, rfl, hP, by rw [ht]; exact g⟩, S.F ht⟩) S.2.2 hd C.2.2.2.2.1
theorem R_vret (hd : decode M.2.1 pc = .ok (.return_, 1)) (hr : M.2.2.2 = none) (hP : P none hp) : RnH hh G l M d P X pc ls [] hp c k := by
  intro p e s m args below meth cd mc ms H locs cells slots la C g S L h1 h2
  refine W.widen (k := mc) (n := ms) (by omega) (by omega) (xMQ_of ?_)
  exact W.vret (Qc := Qn G P) (free := aA G) C.1 C.2.1 (C.2.2.2.1.trans hr) (fun t ht hW => ⟨⟨none, hp, rfl, hP, by rw [ht]; exact g⟩, S.F ht⟩) S.2.2 hd C.2.2.2.2.1
end Rules
