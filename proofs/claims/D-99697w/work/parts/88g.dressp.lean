/-! dressings: the codes in order against the steps -/
set_option maxRecDepth 100000
theorem dg_s0 {b q c : Nat} (hc : c < b) : dg b (q * b + c) 0 = c := by
  unfold dg
  rw [Nat.pow_zero, Nat.div_one, Nat.mul_comm, Nat.mul_add_mod, Nat.mod_eq_of_lt hc]
theorem dg_ss {b q c k : Nat} (hc : c < b) : dg b (q * b + c) (k + 1) = dg b q k := by
  unfold dg
  rw [Nat.pow_succ, Nat.mul_comm (b ^ k) b, ← Nat.div_div_eq_div_mul]
  congr 2
  rw [Nat.mul_comm, Nat.mul_add_div (by omega), Nat.div_eq_of_lt hc, Nat.add_zero]
/-- who has what, by a prefix of m digits -/
def pD (b q m i : Nat) : Nat := dg b q (m - 1 - i)
theorem pD_m {b q c m : Nat} (hc : c < b) : pD b (q * b + c) (m + 1) m = c := by
  unfold pD
  rw [show m + 1 - 1 - m = 0 by omega]
  exact dg_s0 hc
theorem pD_i {b q c m i : Nat} (hc : c < b) (hi : i < m) : pD b (q * b + c) (m + 1) i = pD b q m i := by
  unfold pD
  rw [show m + 1 - 1 - i = (m - 1 - i) + 1 by omega]
  exact dg_ss hc
def okD (ill : Nat → Nat → Int32) (st : Int32) (nc : Nat) (D : Nat → Nat) (m : Nat) : Prop := ∀ i, i < m → D i = nc ∨ (ill i (D i) ≤ st ∧ ∀ j, j < i → D j ≠ D i)
def cntD (nc : Nat) (D : Nat → Nat) : Nat → Nat := acc8 (fun i a => a + (if D i = nc then 0 else 1)) 0
theorem cntD_s (nc : Nat) (D : Nat → Nat) (i : Nat) : cntD nc D (i + 1) = cntD nc D i + (if D i = nc then 0 else 1) := rfl
theorem cntD_cg {nc : Nat} {D D' : Nat → Nat} {m : Nat} (h : ∀ i, i < m → D i = D' i) : cntD nc D m = cntD nc D' m := acc8_cn m (fun i a hi => by rw [h i hi])
theorem cntD_le (nc : Nat) (D : Nat → Nat) : ∀ m, cntD nc D m ≤ m := by
  intro m
  induction m with
  | zero => exact Nat.le_refl _
  | succ m ih => rw [cntD_s]; split <;> omega
def sumD (ill : Nat → Nat → Int32) (nc : Nat) (D : Nat → Nat) : Nat → Int32 := acc8 (fun i a => a + (if D i = nc then 0 else ill i (D i))) 0
theorem sumD_s (ill : Nat → Nat → Int32) (nc : Nat) (D : Nat → Nat) (i : Nat) : sumD ill nc D (i + 1) = sumD ill nc D i + (if D i = nc then 0 else ill i (D i)) := rfl
theorem sumD_cg {ill : Nat → Nat → Int32} {nc : Nat} {D D' : Nat → Nat} {m : Nat} (h : ∀ i, i < m → D i = D' i) : sumD ill nc D m = sumD ill nc D' m := acc8_cn m (fun i a hi => by rw [h i hi])
/-- counted from behind -/
def cntR (nc nm : Nat) (D : Nat → Nat) : Nat → Nat := acc8 (fun k a => a + (if D (nm - 1 - k) = nc then 0 else 1)) 0
theorem cntR_s (nc nm : Nat) (D : Nat → Nat) (k : Nat) : cntR nc nm D (k + 1) = cntR nc nm D k + (if D (nm - 1 - k) = nc then 0 else 1) := rfl
theorem cnt_rev {nc nm : Nat} {D : Nat → Nat} : ∀ k, k ≤ nm → cntD nc D nm = cntD nc D (nm - k) + cntR nc nm D k := by
  intro k
  induction k with
  | zero => intro _; rfl
  | succ k ih =>
    intro hk
    rw [ih (by omega), cntR_s, show nm - k = (nm - (k + 1)) + 1 by omega, cntD_s, show nm - 1 - k = nm - (k + 1) by omega]
    omega
/-- sound from a on -/
def vld (ill : Nat → Nat → Int32) (st : Int32) (nc nm : Nat) (D : Nat → Nat) (a : Nat) : Prop := ∀ i, a ≤ i → i < nm → D i = nc ∨ (ill i (D i) ≤ st ∧ ∀ j, a ≤ j → j < nm → j ≠ i → D j ≠ D i)
theorem vld_0 {ill : Nat → Nat → Int32} {st : Int32} {nc nm : Nat} {D : Nat → Nat} : vld ill st nc nm D 0 ↔ okD ill st nc D nm := by
  constructor
  · intro h i hi
    rcases h i (Nat.zero_le _) hi with e | ⟨e1, e2⟩
    · exact Or.inl e
    · exact Or.inr ⟨e1, fun j hj => e2 j (Nat.zero_le _) (by omega) (by omega)⟩
  · intro h i _ hi
    by_cases e : D i = nc
    · exact Or.inl e
    · rcases h i hi with e1 | ⟨e1, e2⟩
      · exact absurd e1 e
      · refine Or.inr ⟨e1, fun j _ hj hji => ?_⟩
        by_cases q : j < i
        · exact e2 j q
        · rcases h j hj with f | ⟨_, f⟩
          · rw [f]; exact fun z => e z.symm
          · exact fun z => f i (by omega) z.symm
theorem or_has : ∀ (s : Fin 64) (c k : Fin 6), hasB (nI s.val ||| (1 <<< (nI c.val &&& 31))) k.val = (hasB (nI s.val) k.val || decide (k.val = c.val)) := by decide +kernel
theorem or_n : ∀ (s : Fin 64) (c : Fin 6), nI s.val ||| (1 <<< (nI c.val &&& 31)) = nI (nI s.val ||| (1 <<< (nI c.val &&& 31))).toNatClampNeg ∧ (nI s.val ||| (1 <<< (nI c.val &&& 31))).toNatClampNeg < 64 := by decide +kernel
/-- what a set of coats says -/
def usd (nc : Nat) (u : Int32) (Q : Nat → Prop) : Prop := (∃ s, s < 64 ∧ u = nI s) ∧ ∀ c, c < nc → (hasB u c = true ↔ Q c)
theorem usd_0 {nc : Nat} (hc6 : nc ≤ 6) {Q : Nat → Prop} (h : ∀ c, ¬ Q c) : usd nc 0 Q := by
  refine ⟨⟨0, by decide, rfl⟩, fun c hc => ⟨fun q => absurd q ?_, fun q => absurd q (h c)⟩⟩
  have : ∀ c : Fin 6, ¬ hasB 0 c.val = true := by decide +kernel
  exact this ⟨c, by omega⟩
theorem usd_or {nc c : Nat} {u : Int32} {Q Q' : Nat → Prop} (hc6 : nc ≤ 6) (hc : c < nc) (h : usd nc u Q) (hq : ∀ k, Q' k ↔ Q k ∨ k = c) : usd nc (u ||| (1 <<< (nI c &&& 31))) Q' := by
  obtain ⟨⟨s, hs, rfl⟩, h2⟩ := h
  obtain ⟨o1, o2⟩ := or_n ⟨s, hs⟩ ⟨c, by omega⟩
  refine ⟨⟨_, o2, o1⟩, fun k hk => ?_⟩
  have o3 := or_has ⟨s, hs⟩ ⟨c, by omega⟩ ⟨k, by omega⟩
  dsimp only at o3
  rw [o3, hq k, ← h2 k hk]
  simp
theorem usd_cg {nc : Nat} {u : Int32} {Q Q' : Nat → Prop} (h : usd nc u Q) (hq : ∀ k, k < nc → (Q k ↔ Q' k)) : usd nc u Q' := ⟨h.1, fun k hk => (h.2 k hk).trans (hq k hk)⟩
/-- a code is sound: the twin's going through it -/
theorem drE_c {ill : Nat → Nat → Int32} {st : Int32} {nm nc code : Nat} (hc6 : nc ≤ 6) : ∀ k, k ≤ nm →
    (vld ill st nc nm (pD (nc + 1) code nm) (nm - k) ∧ ∃ u, drE ill st nm nc code k = some (u, nI (cntR nc nm (pD (nc + 1) code nm) k)) ∧ usd nc u (fun c => ∃ i, nm - k ≤ i ∧ i < nm ∧ pD (nc + 1) code nm i = c)) ∨ (¬ vld ill st nc nm (pD (nc + 1) code nm) (nm - k) ∧ drE ill st nm nc code k = none) := by
  intro k
  generalize hD : pD (nc + 1) code nm = D
  induction k with
  | zero =>
    intro _
    refine Or.inl ⟨fun i h1 h2 => absurd h1 (by omega), 0, rfl, usd_0 hc6 (fun c ⟨i, h1, h2, _⟩ => absurd h1 (by omega))⟩
  | succ k ih =>
    intro hk
    have ed : dg (nc + 1) code k = D (nm - 1 - k) := by
      rw [← hD]
      unfold pD
      rw [show nm - 1 - (nm - 1 - k) = k by omega]
    have hlt : D (nm - 1 - k) < nc + 1 := by rw [← ed]; exact dg_lt (by omega) code k
    have ei : nm - 1 - k = nm - (k + 1) := by omega
    rw [drE_s]
    rcases ih (by omega) with ⟨v1, u, e, hu⟩ | ⟨v1, e⟩
    · rw [e]
      have eS : drS ill st nm nc code k (some (u, nI (cntR nc nm D k))) = if dg (nc + 1) code k = nc then some (u, nI (cntR nc nm D k)) else if hasB u (dg (nc + 1) code k) then none else if ill (nm - 1 - k) (dg (nc + 1) code k) ≤ st then some (u ||| (1 <<< (nI (dg (nc + 1) code k) &&& 31)), nI (cntR nc nm D k) + 1) else none := rfl
      rw [eS]
      rw [ed]
      by_cases c1 : D (nm - 1 - k) = nc
      · rw [if_pos c1]
        left
        refine ⟨fun i h1 h2 => ?_, u, ?_, usd_cg hu (fun c hc => ⟨?_, ?_⟩)⟩
        · by_cases q : i = nm - 1 - k
          · subst q; exact Or.inl c1
          · rcases v1 i (by omega) h2 with z | ⟨z1, z2⟩
            · exact Or.inl z
            · by_cases y : D i = nc
              · exact Or.inl y
              refine Or.inr ⟨z1, fun j h3 h4 h5 => ?_⟩
              by_cases w : j = nm - 1 - k
              · subst w; rw [c1]; exact fun t => y t.symm
              · exact z2 j (by omega) h4 h5
        · rw [cntR_s, if_pos c1, Nat.add_zero]
        · rintro ⟨i, h1, h2, h3⟩
          exact ⟨i, by omega, h2, h3⟩
        · rintro ⟨i, h1, h2, h3⟩
          by_cases q : i = nm - 1 - k
          · subst q; omega
          · exact ⟨i, by omega, h2, h3⟩
      · rw [if_neg c1]
        have hdc : D (nm - 1 - k) < nc := by omega
        by_cases c2 : hasB u (D (nm - 1 - k)) = true
        · rw [if_pos c2]
          right
          obtain ⟨i, h1, h2, h3⟩ := (hu.2 _ hdc).mp c2
          refine ⟨fun hv => ?_, rfl⟩
          rcases hv (nm - 1 - k) (by omega) (by omega) with z | ⟨_, z⟩
          · exact c1 z
          · exact z i (by omega) h2 (by omega) h3
        · rw [if_neg c2]
          by_cases c3 : ill (nm - 1 - k) (D (nm - 1 - k)) ≤ st
          · rw [if_pos c3]
            left
            have hno : ∀ j, nm - k ≤ j → j < nm → D j ≠ D (nm - 1 - k) := fun j h1 h2 h3 => c2 ((hu.2 _ hdc).mpr ⟨j, h1, h2, h3⟩)
            refine ⟨fun i h1 h2 => ?_, u ||| (1 <<< (nI (D (nm - 1 - k)) &&& 31)), ?_, usd_or hc6 hdc hu (fun c => ⟨?_, ?_⟩)⟩
            · by_cases q : i = nm - 1 - k
              · subst q
                exact Or.inr ⟨c3, fun j h3 h4 h5 => hno j (by omega) h4⟩
              · rcases v1 i (by omega) h2 with z | ⟨z1, z2⟩
                · exact Or.inl z
                · refine Or.inr ⟨z1, fun j h3 h4 h5 => ?_⟩
                  by_cases w : j = nm - 1 - k
                  · subst w; exact fun t => hno i (by omega) h2 t.symm
                  · exact z2 j (by omega) h4 h5
            · rw [cntR_s, if_neg c1, nI_1]
            · rintro ⟨i, h1, h2, h3⟩
              by_cases q : i = nm - 1 - k
              · subst q; exact Or.inr h3.symm
              · exact Or.inl ⟨i, by omega, h2, h3⟩
            · rintro (⟨i, h1, h2, h3⟩ | h3)
              · exact ⟨i, by omega, h2, h3⟩
              · exact ⟨nm - 1 - k, by omega, by omega, h3.symm⟩
          · rw [if_neg c3]
            right
            refine ⟨fun hv => ?_, rfl⟩
            rcases hv (nm - 1 - k) (by omega) (by omega) with z | ⟨z, _⟩
            · exact c1 z
            · exact c3 z
    · rw [e]
      right
      refine ⟨fun hv => v1 (fun i h1 h2 => ?_), rfl⟩
      rcases hv i (by omega) h2 with z | ⟨z1, z2⟩
      · exact Or.inl z
      · exact Or.inr ⟨z1, fun j h3 h4 h5 => z2 j (by omega) h4 h5⟩
theorem dpN_ok {ill : Nat → Nat → Int32} {st : Int32} {nm nc code : Nat} (hc6 : nc ≤ 6) (h : okD ill st nc (pD (nc + 1) code nm) nm) : dpN ill st nm nc code = nI (cntD nc (pD (nc + 1) code nm) nm) := by
  rcases drE_c (ill := ill) (st := st) (code := code) hc6 nm (Nat.le_refl _) with ⟨v1, u, e, hu⟩ | ⟨v1, e⟩
  · unfold dpN
    have := cnt_rev (nc := nc) (D := pD (nc + 1) code nm) nm (Nat.le_refl _)
    rw [Nat.sub_self] at this
    rw [e, this]
    show nI _ = nI (0 + _)
    rw [Nat.zero_add]
  · rw [Nat.sub_self] at v1
    exact absurd (vld_0.mpr h) v1
theorem dpN_no {ill : Nat → Nat → Int32} {st : Int32} {nm nc code : Nat} (hc6 : nc ≤ 6) (h : ¬ okD ill st nc (pD (nc + 1) code nm) nm) : dpN ill st nm nc code = -1 := by
  rcases drE_c (ill := ill) (st := st) (code := code) hc6 nm (Nat.le_refl _) with ⟨v1, u, e, hu⟩ | ⟨v1, e⟩
  · rw [Nat.sub_self] at v1
    exact absurd (vld_0.mp v1) h
  · unfold dpN
    rw [e]
    rfl
/-- all codes behind a prefix, in order -/
def goR (ill : Nat → Nat → Int32) (st : Int32) (nm nc : Nat) : Nat → Nat → DP8 → DP8
  | 0, q, p => dpS ill st nm nc q p
  | n + 1, q, p => acc8 (fun c p => goR ill st nm nc n (q * (nc + 1) + c) p) p (nc + 1)
theorem acc8_add {T : Type} (f : Nat → T → T) (p : T) (a : Nat) : ∀ n, acc8 f p (a + n) = acc8 (fun i => f (a + i)) (acc8 f p a) n := by
  intro n
  induction n with
  | zero => rfl
  | succ n ih => show f (a + n) (acc8 f p (a + n)) = _; rw [ih]; rfl
theorem acc8_mul {T : Type} (f : Nat → T → T) (p : T) (a : Nat) : ∀ b, acc8 f p (b * a) = acc8 (fun c p => acc8 (fun i => f (c * a + i)) p a) p b := by
  intro b
  induction b with
  | zero => rw [Nat.zero_mul]; rfl
  | succ b ih =>
    rw [Nat.succ_mul, acc8_add, ih]
    rfl
theorem goR_all {ill : Nat → Nat → Int32} {st : Int32} {nm nc : Nat} : ∀ n q p, goR ill st nm nc n q p = acc8 (fun i p => dpS ill st nm nc (q * (nc + 1) ^ n + i) p) p ((nc + 1) ^ n) := by
  intro n
  induction n with
  | zero =>
    intro q p
    show dpS ill st nm nc q p = dpS ill st nm nc (q * 1 + 0) p
    rw [Nat.mul_one, Nat.add_zero]
  | succ n ih =>
    intro q p
    show acc8 (fun c p => goR ill st nm nc n (q * (nc + 1) + c) p) p (nc + 1) = _
    rw [Nat.pow_succ, Nat.mul_comm ((nc + 1) ^ n) (nc + 1), acc8_mul]
    refine acc8_cn _ (fun c a hc => ?_)
    rw [ih]
    refine acc8_cn _ (fun i a hi => ?_)
    congr 1
    rw [Nat.add_mul, Nat.mul_assoc, Nat.add_assoc]
theorem goR_0 {ill : Nat → Nat → Int32} {st : Int32} {nm nc : Nat} {L : Nat → Int32} : goR ill st nm nc nm 0 (-1, 0, L) = dpE ill st nm nc L ((nc + 1) ^ nm) := by
  rw [goR_all]
  refine acc8_cn _ (fun i a hi => ?_)
  rw [Nat.zero_mul, Nat.zero_add]
theorem okD_ext {ill : Nat → Nat → Int32} {st : Int32} {nc q c m : Nat} (hc : c < nc + 1) : okD ill st nc (pD (nc + 1) (q * (nc + 1) + c) (m + 1)) (m + 1) ↔ okD ill st nc (pD (nc + 1) q m) m ∧ (c = nc ∨ (ill m c ≤ st ∧ ∀ j, j < m → pD (nc + 1) q m j ≠ c)) := by
  constructor
  · intro h
    refine ⟨fun i hi => ?_, ?_⟩
    · have := h i (by omega)
      rw [pD_i hc hi] at this
      rcases this with z | ⟨z1, z2⟩
      · exact Or.inl z
      · refine Or.inr ⟨z1, fun j hj => ?_⟩
        have := z2 j hj
        rw [pD_i hc (by omega)] at this
        exact this
    · have := h m (by omega)
      rw [pD_m hc] at this
      rcases this with z | ⟨z1, z2⟩
      · exact Or.inl z
      · refine Or.inr ⟨z1, fun j hj => ?_⟩
        have := z2 j hj
        rw [pD_i hc hj] at this
        exact this
  · rintro ⟨h1, h2⟩ i hi
    by_cases e : i = m
    · subst e
      rw [pD_m hc]
      rcases h2 with z | ⟨z1, z2⟩
      · exact Or.inl z
      · refine Or.inr ⟨z1, fun j hj => ?_⟩
        rw [pD_i hc hj]
        exact z2 j hj
    · rw [pD_i hc (by omega)]
      rcases h1 i (by omega) with z | ⟨z1, z2⟩
      · exact Or.inl z
      · refine Or.inr ⟨z1, fun j hj => ?_⟩
        rw [pD_i hc (by omega)]
        exact z2 j hj
theorem acc8_id {T : Type} {f : Nat → T → T} {p : T} : ∀ n, (∀ c, c < n → f c p = p) → acc8 f p n = p := by
  intro n
  induction n with
  | zero => intro _; rfl
  | succ n ih => intro h; show f n (acc8 f p n) = p; rw [ih (fun c hc => h c (by omega))]; exact h n (by omega)
/-- a prefix that isn't sound leads to nothing -/
theorem goR_no {ill : Nat → Nat → Int32} {st : Int32} {nm nc : Nat} (hc6 : nc ≤ 6) : ∀ n m q p, m + n = nm → ¬ okD ill st nc (pD (nc + 1) q m) m → goR ill st nm nc n q p = p := by
  intro n
  induction n with
  | zero =>
    intro m q p hm h
    have : m = nm := by omega
    subst this
    show dpS ill st m nc q p = p
    unfold dpS
    rw [dpN_no hc6 h, if_pos (by decide)]
  | succ n ih =>
    intro m q p hm h
    exact acc8_id _ (fun c hc => ih (m + 1) _ p (by omega) (fun z => h ((okD_ext hc).mp z).1))
theorem goR_s {ill : Nat → Nat → Int32} {st : Int32} {nm nc : Nat} (n q : Nat) (p : DP8) : goR ill st nm nc (n + 1) q p = acc8 (fun c p => goR ill st nm nc n (q * (nc + 1) + c) p) p (nc + 1) := rfl
/-- the most so far is none, or a number -/
theorem dpS_n {ill : Nat → Nat → Int32} {st : Int32} {nm nc q : Nat} (hc6 : nc ≤ 6) (h6 : nm ≤ 6) {p : DP8} (h : p.1 = -1 ∨ ∃ a, a ≤ 6 ∧ p.1 = nI a) : (dpS ill st nm nc q p).1 = -1 ∨ ∃ a, a ≤ 6 ∧ (dpS ill st nm nc q p).1 = nI a := by
  unfold dpS
  by_cases hk : okD ill st nc (pD (nc + 1) q nm) nm
  · rw [dpN_ok hc6 hk]
    have := cntD_le nc (pD (nc + 1) q nm) nm
    split
    · exact h
    · split
      · exact h
      · split
        · exact h
        · exact Or.inr ⟨_, by omega, rfl⟩
  · rw [dpN_no hc6 hk, if_pos (by decide)]
    exact h
