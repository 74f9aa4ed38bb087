/-! the twin, by hand: what changes, loops, numbers -/
set_option maxRecDepth 100000
/-- only the arrays of A have changed -/
def kp (A : List Nat) (σ σ1 : S8) : Prop := σ1.1 = σ.1 ∧ σ1.2.2 = σ.2.2 ∧ ∀ j, j ∉ A → σ1.2.1 j = σ.2.1 j
theorem kp.rf {A : List Nat} {σ : S8} : kp A σ σ := ⟨rfl, rfl, fun _ _ => rfl⟩
theorem kp.tr {A : List Nat} {σ σ1 σ2 : S8} (h : kp A σ σ1) (h2 : kp A σ1 σ2) : kp A σ σ2 := ⟨h2.1.trans h.1, h2.2.1.trans h.2.1, fun j hj => (h2.2.2 j hj).trans (h.2.2 j hj)⟩
theorem kp.mo {A B : List Nat} {σ σ1 : S8} (h : kp A σ σ1) (hs : ∀ j ∈ A, j ∈ B) : kp B σ σ1 := ⟨h.1, h.2.1, fun j hj => h.2.2 j (fun q => hj (hs j q))⟩
theorem kp.up {A : List Nat} {σ σ1 : S8} (h : kp A σ σ1) {j : Nat} (hj : j ∈ A) (g : Nat → Int32) : kp A σ (σ1.1, upA σ1.2.1 j g, σ1.2.2.1, σ1.2.2.2) := by
  refine ⟨h.1, h.2.1, fun q hq => ?_⟩
  show (if q = j then g else σ1.2.1 q) = _
  rw [if_neg (fun e => hq (by rw [e]; exact hj))]
  exact h.2.2 q hq
theorem upA_s {f : Nat → Nat → Int32} {j : Nat} {g : Nat → Int32} : upA f j g j = g := by unfold upA; rw [if_pos rfl]
theorem upA_n {f : Nat → Nat → Int32} {j q : Nat} {g : Nat → Int32} (h : q ≠ j) : upA f j g q = f q := by unfold upA; rw [if_neg h]
theorem upd_s {f : Nat → Int32} {k : Nat} {x : Int32} : upd f k x k = x := by simp [upd]
theorem upd_n {f : Nat → Int32} {k j : Nat} {x : Int32} (h : j ≠ k) : upd f k x j = f j := by simp [upd, h]
/-- a loop of N rounds from a to its end -/
theorem iter8 {A : Type} (Hd : Nat → A → S8 → Option Value → S8 → Prop) (Inv : Nat → A → S8 → Prop) (N : Nat)
    (body : ∀ k a τ, k < N → Inv k a τ → ∃ a1 τ1, Inv (k + 1) a1 τ1 ∧ ∀ r σ1, Hd (k + 1) a1 τ1 r σ1 → Hd k a τ r σ1) :
    ∀ i a τ, i ≤ N → Inv i a τ → ∃ a1 τ1, Inv N a1 τ1 ∧ ∀ r σ1, Hd N a1 τ1 r σ1 → Hd i a τ r σ1 := by
  have h : ∀ n i a τ, i + n = N → Inv i a τ → ∃ a1 τ1, Inv N a1 τ1 ∧ ∀ r σ1, Hd N a1 τ1 r σ1 → Hd i a τ r σ1 := by
    intro n
    induction n with
    | zero =>
      intro i a τ hi hI
      have : i = N := by omega
      subst this
      exact ⟨a, τ, hI, fun _ _ h => h⟩
    | succ n ih =>
      intro i a τ hi hI
      obtain ⟨a1, τ1, h1, h2⟩ := body i a τ (by omega) hI
      obtain ⟨a2, τ2, h3, h4⟩ := ih (i + 1) a1 τ1 (by omega) h1
      exact ⟨a2, τ2, h3, fun r σ1 q => h2 r σ1 (h4 r σ1 q)⟩
  intro i a τ hi hI
  exact h (N - i) i a τ (by omega) hI
/-- a loop that may end early -/
theorem iter8e {A : Type} (Hd : Nat → A → S8 → Option Value → S8 → Prop) (Inv : Nat → A → S8 → Prop) (E : Option Value → S8 → Prop) (N : Nat)
    (body : ∀ k a τ, k < N → Inv k a τ → (∃ a1 τ1, Inv (k + 1) a1 τ1 ∧ ∀ r σ1, Hd (k + 1) a1 τ1 r σ1 → Hd k a τ r σ1) ∨ ∃ r σ1, Hd k a τ r σ1 ∧ E r σ1) :
    ∀ i a τ, i ≤ N → Inv i a τ → (∃ a1 τ1, Inv N a1 τ1 ∧ ∀ r σ1, Hd N a1 τ1 r σ1 → Hd i a τ r σ1) ∨ ∃ r σ1, Hd i a τ r σ1 ∧ E r σ1 := by
  have h : ∀ n i a τ, i + n = N → Inv i a τ → (∃ a1 τ1, Inv N a1 τ1 ∧ ∀ r σ1, Hd N a1 τ1 r σ1 → Hd i a τ r σ1) ∨ ∃ r σ1, Hd i a τ r σ1 ∧ E r σ1 := by
    intro n
    induction n with
    | zero =>
      intro i a τ hi hI
      have : i = N := by omega
      subst this
      exact Or.inl ⟨a, τ, hI, fun _ _ h => h⟩
    | succ n ih =>
      intro i a τ hi hI
      rcases body i a τ (by omega) hI with ⟨a1, τ1, h1, h2⟩ | h
      · rcases ih (i + 1) a1 τ1 (by omega) h1 with ⟨a2, τ2, h3, h4⟩ | ⟨r, σ1, h3, h4⟩
        · exact Or.inl ⟨a2, τ2, h3, fun r σ1 q => h2 r σ1 (h4 r σ1 q)⟩
        · exact Or.inr ⟨r, σ1, h2 r σ1 h3, h4⟩
      · exact Or.inr h
  intro i a τ hi hI
  exact h (N - i) i a τ (by omega) hI
/-- a running value -/
def acc8 {A : Type} (f : Nat → A → A) (a : A) : Nat → A
  | 0 => a
  | k + 1 => f k (acc8 f a k)
theorem n6 (k : Nat) : (6 : Int32) + nI k = nI (6 + k) := nI_add 6 k
theorem n12 (k : Nat) : (12 : Int32) + nI k = nI (12 + k) := nI_add 12 k
theorem n18 (k : Nat) : (18 : Int32) + nI k = nI (18 + k) := nI_add 18 k
theorem n24 (k : Nat) : (24 : Int32) + nI k = nI (24 + k) := nI_add 24 k
theorem n30 (k : Nat) : (30 : Int32) + nI k = nI (30 + k) := nI_add 30 k
theorem cl {n : Nat} (h : n < 1000000) : (nI n).toNatClampNeg = n := nI_clamp (by omega)
theorem vin {n N : Nat} (h : n < N) (hN : N < 1000000) : vp_in (nI n) N := vp_in_nI h (by omega)
theorem Tw8.ofR {M : MD} {d : Nat} {as : List Value} {σ σ1 : S8} {r : Option Value} (ls : List Value) (hy : plainName M.1.cls = true) (hls : ∀ T, eL (.ref T :: as) M.2.2.1 = .ref T :: ls) (hn : ∀ (G : Wd) (T : Nat), (lg_sl ((.ref T :: as).map (cv G))).length ≤ M.2.2.1) (h : Rn8 M d 0 ls (fun _ => []) σ r σ1) : Tw8 M d as σ r σ1 := Tw8.of hy hls hn h
/-! filling -/
theorem fill8 (d : Nat) (σ : S8) : ∃ σ1, Tw8 mX8_fill (d + 1) [] σ none σ1 ∧ kp [60] σ σ1 ∧ ∀ k, k < 39 → σ1.2.1 60 k = σ.2.1 59 k := by
  obtain ⟨_, τ, ⟨h1, h2⟩, h3⟩ := iter8 (A := Unit) (fun k _ τ r σ1 => Rn8 mX8_fill (d + 1) 2 [.int (nI k)] (fun _ => []) τ r σ1) (fun k _ τ => kp [60] σ τ ∧ ∀ j, j < k → τ.2.1 60 j = σ.2.1 59 j) 39 (by
    rintro k ⟨⟩ τ hk ⟨q1, q2⟩
    refine ⟨(), _, ⟨q1.up (j := 60) (by decide) (upd (τ.2.1 60) k (σ.2.1 59 k)), fun j hj => ?_⟩, fun r σ1 h => ?_⟩
    · show upA τ.2.1 60 (upd (τ.2.1 60) k (σ.2.1 59 k)) 60 j = σ.2.1 59 j
      rw [upA_s]
      by_cases e : j = k
      · subst e; rw [upd_s]
      · rw [upd_n e]; exact q2 j (by omega)
    · refine g8_fill_2 ⟨fun q => absurd q (nI_ge (b := 39) hk (by decide)), fun _ => ⟨vin hk (by decide), ?_⟩⟩
      rw [nI_1, cl (by omega), q1.2.2 59 (by decide)]
      exact h) 0 () σ (Nat.zero_le _) ⟨kp.rf, fun j hj => absurd hj (by omega)⟩
  exact ⟨τ, Tw8.ofR [U_] (by decide) (fun _ => rfl) (fun _ _ => Nat.le_of_ble_eq_true rfl) (g8_fill_0 (h3 none τ (g8_fill_2 ⟨fun _ => ⟨rfl, rfl⟩, fun q => absurd (by decide) q⟩))), h1, h2⟩
theorem keepAir8 (d : Nat) (σ : S8) : ∃ σ1, Tw8 mX8_keepAir (d + 1) [] σ none σ1 ∧ kp [59] σ σ1 ∧ ∀ k, k < 39 → σ1.2.1 59 k = σ.2.1 60 k := by
  obtain ⟨_, τ, ⟨h1, h2⟩, h3⟩ := iter8 (A := Unit) (fun k _ τ r σ1 => Rn8 mX8_keepAir (d + 1) 2 [.int (nI k)] (fun _ => []) τ r σ1) (fun k _ τ => kp [59] σ τ ∧ ∀ j, j < k → τ.2.1 59 j = σ.2.1 60 j) 39 (by
    rintro k ⟨⟩ τ hk ⟨q1, q2⟩
    refine ⟨(), _, ⟨q1.up (j := 59) (by decide) (upd (τ.2.1 59) k (σ.2.1 60 k)), fun j hj => ?_⟩, fun r σ1 h => ?_⟩
    · show upA τ.2.1 59 (upd (τ.2.1 59) k (σ.2.1 60 k)) 59 j = σ.2.1 60 j
      rw [upA_s]
      by_cases e : j = k
      · subst e; rw [upd_s]
      · rw [upd_n e]; exact q2 j (by omega)
    · refine g8_keepAir_2 ⟨fun q => absurd q (nI_ge (b := 39) hk (by decide)), fun _ => ⟨vin hk (by decide), ?_⟩⟩
      rw [nI_1, cl (by omega), q1.2.2 60 (by decide)]
      exact h) 0 () σ (Nat.zero_le _) ⟨kp.rf, fun j hj => absurd hj (by omega)⟩
  exact ⟨τ, Tw8.ofR [U_] (by decide) (fun _ => rfl) (fun _ _ => Nat.le_of_ble_eq_true rfl) (g8_keepAir_0 (h3 none τ (g8_keepAir_2 ⟨fun _ => ⟨rfl, rfl⟩, fun q => absurd (by decide) q⟩))), h1, h2⟩
/-! who wears: of the vector v (39 numbers) -/
def wearer8 (v : Nat → Int32) (c : Int32) (nm : Nat) : Int32 := acc8 (fun k a => if v (6 + k) = c then nI k else a) (-1) nm
theorem wearerT8 (d : Nat) (σ : S8) (c : Int32) (nm : Nat) (hm : σ.1 48 = nI nm) (h6 : nm ≤ 6) : Tw8 mX8_wearer (d + 1) [.int c] σ (some (.int (wearer8 (σ.2.1 60) c nm))) σ := by
  obtain ⟨a, τ, ⟨h1, h2⟩, h3⟩ := iter8 (A := Int32) (fun k a τ r σ1 => Rn8 mX8_wearer (d + 1) 4 [.int c, .int a, .int (nI k)] (fun _ => []) τ r σ1) (fun k a τ => a = wearer8 (σ.2.1 60) c k ∧ τ = σ) nm (by
    rintro k a τ hk ⟨rfl, rfl⟩
    refine ⟨_, _, ⟨rfl, rfl⟩, fun r σ1 h => ?_⟩
    refine g8_wearer_4 ⟨fun q => absurd q (by rw [hm]; exact nI_ge hk (by omega)), fun _ => ⟨by rw [n6]; exact vin (by omega) (by decide), ?_⟩⟩
    rw [nI_1, n6, cl (by omega)]
    exact h) 0 (-1) σ (Nat.zero_le _) ⟨rfl, rfl⟩
  subst h1; subst h2
  exact Tw8.ofR [.int c, U_, U_] (by decide) (fun _ => rfl) (fun _ _ => Nat.le_of_ble_eq_true rfl) (g8_wearer_0 (h3 _ _ (g8_wearer_4 ⟨fun _ => ⟨rfl, rfl⟩, fun q => absurd (by rw [hm]; exact nI_le (Nat.le_refl _) (by omega)) q⟩)))
/-- a set out of bits -/
def set8 (f : Nat → Bool) (n : Nat) : Int32 := acc8 (fun k a => a ||| ((if f k then 1 else 0) <<< (nI k &&& 31))) 0 n
def wearers8 (v : Nat → Int32) (nm : Nat) : Int32 := set8 (fun k => decide (0 ≤ v (6 + k))) nm
theorem tr8 (c : Prop) [Decidable c] : s8_truth (if c then 1 else 0) = if c then 1 else 0 := by
  unfold s8_truth
  by_cases h : c <;> simp [h]
theorem tr8n (c : Prop) [Decidable c] : s8_truth (if c then 0 else 1) = if ¬ c then 1 else 0 := by
  unfold s8_truth
  by_cases h : c <;> simp [h]
theorem i32_nlt {x y : Int32} : ¬ x < y ↔ y ≤ x := by
  rw [Int32.lt_iff_toInt_lt, Int32.le_iff_toInt_le]; omega
theorem wearersT8 (d : Nat) (σ : S8) (nm : Nat) (hm : σ.1 48 = nI nm) (h6 : nm ≤ 6) : Tw8 mX8_wearers (d + 2) [] σ (some (.int (wearers8 (σ.2.1 60) nm))) σ := by
  obtain ⟨a, τ, ⟨h1, h2⟩, h3⟩ := iter8 (A := Int32) (fun k a τ r σ1 => Rn8 mX8_wearers (d + 2) 4 [.int a, .int (nI k)] (fun _ => []) τ r σ1) (fun k a τ => a = wearers8 (σ.2.1 60) k ∧ τ = σ) nm (by
    rintro k a τ hk ⟨rfl, rfl⟩
    refine ⟨_, _, ⟨rfl, rfl⟩, fun r σ1 h => ?_⟩
    refine g8_wearers_4 ⟨fun q => absurd q (by rw [hm]; exact nI_ge hk (by omega)), fun _ => ⟨by rw [n6]; exact vin (by omega) (by decide), ?_⟩⟩
    rw [nI_1, n6, cl (by omega), tr8n]
    have e : (if ¬ τ.2.1 60 (6 + k) < 0 then (1 : Int32) else 0) = if decide (0 ≤ τ.2.1 60 (6 + k)) = true then 1 else 0 := by
      simp only [i32_nlt, decide_eq_true_eq]
    rw [e]
    exact h) 0 0 σ (Nat.zero_le _) ⟨rfl, rfl⟩
  subst h1; subst h2
  exact Tw8.ofR [U_, U_] (by decide) (fun _ => rfl) (fun _ _ => Nat.le_of_ble_eq_true rfl) (g8_wearers_0 (h3 _ _ (g8_wearers_4 ⟨fun _ => ⟨rfl, rfl⟩, fun q => absurd (by rw [hm]; exact nI_le (Nat.le_refl _) (by omega)) q⟩)))
