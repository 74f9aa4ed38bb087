/-! the twin: what lies within an array's bounds alone counts; who fits; a day -/
set_option maxRecDepth 100000
def eq8 (σ τ : S8) : Prop := σ.1 = τ.1 ∧ σ.2.2 = τ.2.2 ∧ ∀ j i, i < n8 j → σ.2.1 j i = τ.2.1 j i
theorem arrV_ext {cA n : Nat} {f g : Nat → Value} (h : ∀ i, i < n → f i = g i) : arrV cA n f = arrV cA n g := by
  unfold arrV
  congr 1
  apply Array.ext
  · simp
  · intro i h1 h2
    simp at h1
    simp [h i h1]
theorem eq8_at {G : Wd} {T o : Nat} {σ τ : S8} {H : Heap} {q : Nat} (h : eq8 σ τ) (ho : o < NA) (ha : va_at G.2.1 clA (q, ce G (c8 T σ o)) H) : va_at G.2.1 clA (q, ce G (c8 T τ o)) H := by
  obtain ⟨h1, h2, h3⟩ := h
  cases o with
  | zero =>
    have e : c8 T σ 0 = c8 T τ 0 := by
      show (.inr (0, v8 T σ) : va_E) = .inr (0, v8 T τ)
      have : v8 T σ = v8 T τ := by
        unfold v8
        apply List.map_congr_left
        intro j _
        unfold f8
        rw [h1, h2]
      rw [this]
    rw [← e]; exact ha
  | succ o =>
    obtain ⟨q1, q2, q3, q4⟩ := j8_in (o + 1) ho (by omega)
    generalize j8 (o + 1) = j at q1 q2 q3 q4
    rw [← q1, c8_at q2 q3 q4] at ha
    rw [← q1, c8_at q2 q3 q4]
    by_cases e2 : k8 j = 2
    · rw [e2] at ha ⊢
      show H[q]? = some (arrV (G.2.2.1 1) (n8 j) (fun i => .int (τ.2.1 j i)))
      have ha' : H[q]? = some (arrV (G.2.2.1 1) (n8 j) (fun i => .int (σ.2.1 j i))) := ha
      rw [ha', arrV_ext (fun i hi => by rw [h3 _ i hi])]
    by_cases e3 : k8 j = 3
    · rw [e3] at ha ⊢
      show H[q]? = some (arrV (G.2.2.1 3) (n8 j) (fun i => .long (τ.2.2.2 i)))
      have ha' : H[q]? = some (arrV (G.2.2.1 3) (n8 j) (fun i => .long (σ.2.2.2 i))) := ha
      rw [ha', h2]
    · have e1 : k8 j = 1 := by
        have : ∀ j, j < 79 → k8 j ≠ 0 → k8 j ≠ 5 → k8 j ≠ 2 → k8 j ≠ 3 → k8 j = 1 := by decide +kernel
        exact this j q2 q3 q4 e2 e3
      rw [e1] at ha ⊢
      show H[q]? = some (arrV (G.2.2.1 0) (n8 j) (fun i => .int (τ.2.1 j i)))
      have ha' : H[q]? = some (arrV (G.2.2.1 0) (n8 j) (fun i => .int (σ.2.1 j i))) := ha
      rw [ha', arrV_ext (fun i hi => by rw [h3 _ i hi])]
theorem c8_ne {T : Nat} {σ : S8} {o : Nat} : c8 T σ o ≠ dead := by
  cases o with
  | zero => exact ne_c (ci := 0) rfl
  | succ o =>
    simp only [c8]
    split <;> exact ne_a
theorem eq8_P {G : Wd} {T : Nat} {σ τ : S8} {hp : Hp} {H : Heap} (h : eq8 σ τ) (g : GoodP G (tw T σ hp) H) : GoodP G (tw T τ hp) H := by
  refine ⟨g.1, g.2.1, fun i hi hn => ?_⟩
  show va_at G.2.1 clA (G.1 i, ce G (if T ≤ i ∧ i < T + NA then c8 T τ (i - T) else hp.1 i)) H
  have hn2 : (if T ≤ i ∧ i < T + NA then c8 T τ (i - T) else hp.1 i) ≠ dead := hn
  by_cases e : T ≤ i ∧ i < T + NA
  · have h2 : va_at G.2.1 clA (G.1 i, ce G (if T ≤ i ∧ i < T + NA then c8 T σ (i - T) else hp.1 i)) H := g.2.2 i hi (by
      show (if T ≤ i ∧ i < T + NA then c8 T σ (i - T) else hp.1 i) ≠ dead
      rw [if_pos e]; exact c8_ne)
    rw [if_pos e] at h2 ⊢
    exact eq8_at h (by omega) h2
  · rw [if_neg e] at hn2
    have h2 : va_at G.2.1 clA (G.1 i, ce G (if T ≤ i ∧ i < T + NA then c8 T σ (i - T) else hp.1 i)) H := g.2.2 i hi (by
      show (if T ≤ i ∧ i < T + NA then c8 T σ (i - T) else hp.1 i) ≠ dead
      rw [if_neg e]; exact hn2)
    rw [if_neg e] at h2 ⊢
    exact h2
theorem Tw8.post {M : MD} {d : Nat} {as : List Value} {σ σ1 σ2 : S8} {r : Option Value} (h : Tw8 M d as σ r σ1) (e : eq8 σ1 σ2) : Tw8 M d as σ r σ2 := by
  intro G l T hp hK hT p e' ha hc hk s m args below hf hfit hheap happ
  obtain ⟨n, o, h1, h2, h3, ⟨⟨⟨v, hp1, e1, ⟨e2, e2'⟩, e3⟩, e4⟩, e5⟩⟩ := h G l T hp hK hT p e' ha hc hk s m args below hf hfit hheap happ
  subst e2'
  exact ⟨n, o, h1, h2, h3, ⟨⟨⟨v, _, e1, ⟨e2, rfl⟩, eq8_P e e3⟩, e4⟩, e5⟩⟩
/-- the array j becomes g -/
def stA (σ : S8) (j : Nat) (g : Nat → Int32) : S8 := (σ.1, upA σ.2.1 j g, σ.2.2)
theorem stA_kp {A : List Nat} {σ : S8} {j : Nat} {g : Nat → Int32} (h : j ∈ A) : kp A σ (stA σ j g) := ⟨rfl, rfl, fun q hq => upA_n (fun e => hq (by rw [e]; exact h))⟩
theorem stA_s {σ : S8} {j : Nat} {g : Nat → Int32} : (stA σ j g).2.1 j = g := upA_s
theorem stA_n {σ : S8} {j q : Nat} {g : Nat → Int32} (h : q ≠ j) : (stA σ j g).2.1 q = σ.2.1 q := upA_n h
theorem kp_eq8 {σ τ : S8} {j : Nat} {g : Nat → Int32} (h : kp [j] σ τ) (hg : ∀ i, i < n8 j → τ.2.1 j i = g i) : eq8 τ (stA σ j g) := by
  refine ⟨h.1, h.2.1, fun q i hi => ?_⟩
  by_cases e : q = j
  · subst e; rw [stA_s]; exact hg i hi
  · rw [stA_n e, h.2.2 q (by simpa using e)]
theorem fillX (d : Nat) (σ : S8) : Tw8 mX8_fill (d + 1) [] σ none (stA σ 60 (σ.2.1 59)) := by
  obtain ⟨σ1, h1, h2, h3⟩ := fill8 d σ
  exact h1.post (kp_eq8 h2 (fun i hi => h3 i hi))
theorem keepX (d : Nat) (σ : S8) : Tw8 mX8_keepAir (d + 1) [] σ none (stA σ 59 (σ.2.1 60)) := by
  obtain ⟨σ1, h1, h2, h3⟩ := keepAir8 d σ
  exact h1.post (kp_eq8 h2 (fun i hi => h3 i hi))
/-- the regiment in force: so many men, so many coats; its formula can be gone through -/
def R8 (σ : S8) (nm nc : Nat) : Prop := σ.1 48 = nI nm ∧ nm ≤ 6 ∧ σ.1 49 = nI nc ∧ nc ≤ 6 ∧ okF σ
theorem R8.kp {A : List Nat} {σ σ1 : S8} {nm nc : Nat} (h : R8 σ nm nc) (k : kp A σ σ1) (h3 : 13 ∉ A) (h4 : 14 ∉ A) : R8 σ1 nm nc := by
  refine ⟨by rw [k.1]; exact h.1, h.2.1, by rw [k.1]; exact h.2.2.1, h.2.2.2.1, ?_⟩
  intro q
  rw [k.1] at q
  obtain ⟨n, a, b⟩ := h.2.2.2.2 q
  exact ⟨n, by rw [k.1]; exact a, by rw [k.2.2 13 h3, k.2.2 14 h4]; exact b⟩
/-- what the misfits rest on -/
abbrev E8 : Type := Int32 × Nat × (Nat → Int32) × (Nat → Int32) × (Nat → Int32) × Int32
def env8 (σ : S8) : E8 := (σ.1 25, (σ.1 18).toNatClampNeg, σ.2.1 13, σ.2.1 14, σ.2.1 34, σ.1 50)
theorem env8_kp {A : List Nat} {σ σ1 : S8} (k : kp A σ σ1) (h1 : 13 ∉ A) (h2 : 14 ∉ A) (h3 : 34 ∉ A) : env8 σ1 = env8 σ := by
  unfold env8
  rw [k.1, k.2.2 13 h1, k.2.2 14 h2, k.2.2 34 h3]
def misE (e : E8) (v : Nat → Int32) (m c : Nat) : Int32 := mis8 e.1 e.2.1 e.2.2.1 e.2.2.2.1 e.2.2.2.2.1 v m c
def fitE (e : E8) (v : Nat → Int32) (m c : Nat) : Bool := decide (misE e v m c ≤ e.2.2.2.2.2)
def bi (b : Bool) : Int32 := if b then 1 else 0
theorem isB_bi (b : Bool) : isB (bi b) := by cases b <;> rfl
theorem tr_bi (b : Bool) : s8_truth (bi b) = bi b := by cases b <;> rfl
theorem bi_if (c : Prop) [Decidable c] : (if c then (1 : Int32) else 0) = bi (decide c) := by
  unfold bi
  by_cases h : c <;> simp [h]
theorem bi_ifn (c : Prop) [Decidable c] : (if c then (0 : Int32) else 1) = bi (decide ¬ c) := by
  unfold bi
  by_cases h : c <;> simp [h]
theorem bi_0 (b : Bool) : bi b = 0 ↔ b = false := by cases b <;> decide
theorem nI_nneg {n : Nat} (h : n < 1000000) : ¬ nI n < 0 := nI_pos (by omega)
theorem fitsT8 (d : Nat) (σ : S8) {nm nc m c : Nat} (hR : R8 σ nm nc) (hm : m < 6) (hc : c < 6) : ∃ σ1, Tw8 mX8_fits (d + 4) [.int (nI m), .int (nI c)] σ (some (.int (bi (fitE (env8 σ) (σ.2.1 60) m c)))) σ1 ∧ kp [16, 26] σ σ1 := by
  obtain ⟨σ1, h1, h2⟩ := misfitT8 d σ m c hm hc hR.2.2.2.2
  refine ⟨σ1, Tw8.ofR [.int (nI m), .int (nI c)] (by decide) (fun _ => rfl) (fun _ _ => Nat.le_of_ble_eq_true rfl) (g8_fits_0 ⟨fun q => absurd q (nI_nneg (by omega)), fun _ => ⟨_, _, h1, ?_, rfl⟩⟩), h2⟩
  rw [bi_ifn, h2.1]
  congr 3
  unfold fitE misE env8
  simp only [i32_nlt]
theorem fitsN8 (d : Nat) (σ : S8) {m c : Int32} (hc : c < 0) : Tw8 mX8_fits (d + 4) [.int m, .int c] σ (some (.int (bi false))) σ :=
  Tw8.ofR [.int m, .int c] (by decide) (fun _ => rfl) (fun _ _ => Nat.le_of_ble_eq_true rfl) (g8_fits_0 ⟨fun _ => ⟨rfl, rfl⟩, fun q => absurd hc q⟩)
/-- each wears nothing, or a coat that there is -/
def okW (v : Nat → Int32) (nm nc : Nat) : Prop := ∀ m, m < nm → v (6 + m) = -1 ∨ ∃ c, c < nc ∧ v (6 + m) = nI c
def ownE (e : E8) (v : Nat → Int32) (m : Nat) : Bool := if v (6 + m) < 0 then false else fitE e v m (v (6 + m)).toNatClampNeg
theorem fitsOwnT8 (d : Nat) (σ : S8) {nm nc m : Nat} (hR : R8 σ nm nc) (hm : m < nm) (hW : okW (σ.2.1 60) nm nc) : ∃ σ1, Tw8 mX8_fitsOwn (d + 5) [.int (nI m)] σ (some (.int (bi (ownE (env8 σ) (σ.2.1 60) m)))) σ1 ∧ kp [16, 26] σ σ1 := by
  have h6 := hR.2.1
  have b1 : vp_in ((6 : Int32) + nI m) 39 := by rw [n6]; exact vin (by omega) (by decide)
  have e1 : ((6 : Int32) + nI m).toNatClampNeg = 6 + m := by rw [n6]; exact cl (by omega)
  rcases hW m hm with h | ⟨c, hc, h⟩
  · refine ⟨σ, Tw8.ofR [.int (nI m)] (by decide) (fun _ => rfl) (fun _ _ => Nat.le_of_ble_eq_true rfl) (g8_fitsOwn_0 ⟨b1, _, _, by rw [e1, h]; exact fitsN8 d σ (by decide), isB_bi _, ?_, rfl⟩), kp.rf⟩
    unfold ownE
    rw [h, if_pos (by decide)]
  · have h6c := hR.2.2.2.1
    obtain ⟨σ1, q1, q2⟩ := fitsT8 d σ hR (show m < 6 by omega) (show c < 6 by omega)
    refine ⟨σ1, Tw8.ofR [.int (nI m)] (by decide) (fun _ => rfl) (fun _ _ => Nat.le_of_ble_eq_true rfl) (g8_fitsOwn_0 ⟨b1, _, _, by rw [e1, h]; exact q1, isB_bi _, ?_, rfl⟩), q2⟩
    unfold ownE
    rw [h, if_neg (nI_nneg (by omega)), cl (by omega)]
theorem set8_s (f : Nat → Bool) (k : Nat) : set8 f k ||| (bi (f k) <<< (nI k &&& 31)) = set8 f (k + 1) := rfl
theorem fittedOnesT8 (d : Nat) (σ : S8) {nm nc : Nat} (hR : R8 σ nm nc) (hW : okW (σ.2.1 60) nm nc) : ∃ σ1, Tw8 mX8_fittedOnes (d + 6) [] σ (some (.int (set8 (ownE (env8 σ) (σ.2.1 60)) nm))) σ1 ∧ kp [16, 26] σ σ1 := by
  have h6 := hR.2.1
  obtain ⟨a, τ, ⟨h1, h2⟩, h3⟩ := iter8 (A := Int32) (fun k a τ r σ1 => Rn8 mX8_fittedOnes (d + 6) 4 [.int a, .int (nI k)] (fun _ => []) τ r σ1) (fun k a τ => a = set8 (ownE (env8 σ) (σ.2.1 60)) k ∧ kp [16, 26] σ τ) nm (by
    rintro k a τ hk ⟨rfl, q1⟩
    obtain ⟨τ1, q2, q3⟩ := fitsOwnT8 d τ (hR.kp q1 (by decide) (by decide)) hk (by rw [q1.2.2 60 (by decide)]; exact hW)
    refine ⟨_, τ1, ⟨rfl, q1.tr q3⟩, fun r σ1 h => ?_⟩
    refine g8_fittedOnes_4 ⟨fun q => absurd q (by rw [q1.1, hR.1]; exact nI_ge hk (by omega)), fun _ => ⟨_, _, q2, ?_⟩⟩
    rw [env8_kp q1 (by decide) (by decide) (by decide), q1.2.2 60 (by decide), tr_bi, set8_s, nI_1]
    exact h) 0 0 σ (Nat.zero_le _) ⟨rfl, kp.rf⟩
  subst h1
  exact ⟨τ, Tw8.ofR [U_, U_] (by decide) (fun _ => rfl) (fun _ _ => Nat.le_of_ble_eq_true rfl) (g8_fittedOnes_0 (h3 _ _ (g8_fittedOnes_4 ⟨fun _ => ⟨rfl, rfl⟩, fun q => absurd (by rw [h2.1, hR.1]; exact nI_le (Nat.le_refl _) (by omega)) q⟩))), h2⟩
theorem coatsForT8 (d : Nat) (σ : S8) {nm nc m : Nat} (hR : R8 σ nm nc) (hm : m < 6) : ∃ σ1, Tw8 mX8_coatsFor (d + 5) [.int (nI m)] σ (some (.int (set8 (fitE (env8 σ) (σ.2.1 60) m) nc))) σ1 ∧ kp [16, 26] σ σ1 := by
  have h6 := hR.2.2.2.1
  obtain ⟨a, τ, ⟨h1, h2⟩, h3⟩ := iter8 (A := Int32) (fun k a τ r σ1 => Rn8 mX8_coatsFor (d + 5) 4 [.int (nI m), .int a, .int (nI k)] (fun _ => []) τ r σ1) (fun k a τ => a = set8 (fitE (env8 σ) (σ.2.1 60) m) k ∧ kp [16, 26] σ τ) nc (by
    rintro k a τ hk ⟨rfl, q1⟩
    obtain ⟨τ1, q2, q3⟩ := fitsT8 d τ (hR.kp q1 (by decide) (by decide)) hm (show k < 6 by omega)
    refine ⟨_, τ1, ⟨rfl, q1.tr q3⟩, fun r σ1 h => ?_⟩
    refine g8_coatsFor_4 ⟨fun q => absurd q (by rw [q1.1, hR.2.2.1]; exact nI_ge hk (by omega)), fun _ => ⟨_, _, q2, ?_⟩⟩
    rw [env8_kp q1 (by decide) (by decide) (by decide), q1.2.2 60 (by decide), tr_bi, set8_s, nI_1]
    exact h) 0 0 σ (Nat.zero_le _) ⟨rfl, kp.rf⟩
  subst h1
  exact ⟨τ, Tw8.ofR [.int (nI m), U_, U_] (by decide) (fun _ => rfl) (fun _ _ => Nat.le_of_ble_eq_true rfl) (g8_coatsFor_0 (h3 _ _ (g8_coatsFor_4 ⟨fun _ => ⟨rfl, rfl⟩, fun q => absurd (by rw [h2.1, hR.2.2.1]; exact nI_le (Nat.le_refl _) (by omega)) q⟩))), h2⟩
/-- how many of the first n -/
def cnt8 (f : Nat → Bool) (n : Nat) : Int32 := acc8 (fun k a => a + bi (f k)) 0 n
theorem cnt8_s (f : Nat → Bool) (k : Nat) : cnt8 f k + bi (f k) = cnt8 f (k + 1) := rfl
theorem menForT8 (d : Nat) (σ : S8) {nm nc c : Nat} (hR : R8 σ nm nc) (hc : c < 6) : ∃ σ1, Tw8 mX8_menFor (d + 5) [.int (nI c)] σ (some (.int (cnt8 (fun m => fitE (env8 σ) (σ.2.1 60) m c) nm))) σ1 ∧ kp [16, 26] σ σ1 := by
  have h6 := hR.2.1
  obtain ⟨a, τ, ⟨h1, h2⟩, h3⟩ := iter8 (A := Int32) (fun k a τ r σ1 => Rn8 mX8_menFor (d + 5) 4 [.int (nI c), .int a, .int (nI k)] (fun _ => []) τ r σ1) (fun k a τ => a = cnt8 (fun m => fitE (env8 σ) (σ.2.1 60) m c) k ∧ kp [16, 26] σ τ) nm (by
    rintro k a τ hk ⟨rfl, q1⟩
    obtain ⟨τ1, q2, q3⟩ := fitsT8 d τ (hR.kp q1 (by decide) (by decide)) (show k < 6 by omega) hc
    refine ⟨_, τ1, ⟨rfl, q1.tr q3⟩, fun r σ1 h => ?_⟩
    refine g8_menFor_4 ⟨fun q => absurd q (by rw [q1.1, hR.1]; exact nI_ge hk (by omega)), fun _ => ⟨_, _, q2, ?_⟩⟩
    rw [env8_kp q1 (by decide) (by decide) (by decide), q1.2.2 60 (by decide), tr_bi, nI_1]
    exact h) 0 0 σ (Nat.zero_le _) ⟨rfl, kp.rf⟩
  subst h1
  exact ⟨τ, Tw8.ofR [.int (nI c), U_, U_] (by decide) (fun _ => rfl) (fun _ _ => Nat.le_of_ble_eq_true rfl) (g8_menFor_0 (h3 _ _ (g8_menFor_4 ⟨fun _ => ⟨rfl, rfl⟩, fun q => absurd (by rw [h2.1, hR.1]; exact nI_le (Nat.le_refl _) (by omega)) q⟩))), h2⟩
/-- how ill his own sits; none: -1 -/
def ownI (e : E8) (v : Nat → Int32) (m : Nat) : Int32 := if v (6 + m) < 0 then -1 else misE e v m (v (6 + m)).toNatClampNeg
theorem ownIllT8 (d : Nat) (σ : S8) {nm nc m : Nat} (hR : R8 σ nm nc) (hm : m < nm) (hW : okW (σ.2.1 60) nm nc) : ∃ σ1, Tw8 mX8_ownIll (d + 4) [.int (nI m)] σ (some (.int (ownI (env8 σ) (σ.2.1 60) m))) σ1 ∧ kp [16, 26] σ σ1 := by
  have h6 := hR.2.1
  have b1 : vp_in ((6 : Int32) + nI m) 39 := by rw [n6]; exact vin (by omega) (by decide)
  have e1 : ((6 : Int32) + nI m).toNatClampNeg = 6 + m := by rw [n6]; exact cl (by omega)
  rcases hW m hm with h | ⟨c, hc, h⟩
  · refine ⟨σ, Tw8.ofR [.int (nI m)] (by decide) (fun _ => rfl) (fun _ _ => Nat.le_of_ble_eq_true rfl) (g8_ownIll_0 ⟨b1, fun q => absurd q (by rw [e1, h]; decide), fun _ => ⟨?_, rfl⟩⟩), kp.rf⟩
    unfold ownI
    rw [h, if_pos (by decide)]
  · have h6c := hR.2.2.2.1
    obtain ⟨σ1, q1, q2⟩ := misfitT8 d σ m c (by omega) (by omega) hR.2.2.2.2
    refine ⟨σ1, Tw8.ofR [.int (nI m)] (by decide) (fun _ => rfl) (fun _ _ => Nat.le_of_ble_eq_true rfl) (g8_ownIll_0 ⟨b1, fun _ => ⟨_, _, by rw [e1, h]; exact q1, ?_, rfl⟩, fun q => absurd (by rw [e1, h]; exact nI_pos' (by omega)) q⟩), q2⟩
    unfold ownI
    rw [h, if_neg (nI_nneg (by omega)), cl (by omega)]
    rfl
