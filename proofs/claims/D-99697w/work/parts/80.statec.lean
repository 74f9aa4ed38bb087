/-! the component's states as vectors; how ill a coat sits, who fits, who is dressed -/
set_option maxRecDepth 100000
/-- only the places of B have changed, no reference -/
def kc (B : List Nat) (σ σ1 : Sg) : Prop := σ1.2 = σ.2 ∧ ∀ o, o ∉ B → σ1.1 o = σ.1 o
theorem kc.rf {B : List Nat} {σ : Sg} : kc B σ σ := ⟨rfl, fun _ _ => rfl⟩
theorem kc.tr {B : List Nat} {σ σ1 σ2 : Sg} (h : kc B σ σ1) (h2 : kc B σ1 σ2) : kc B σ σ2 := ⟨h2.1.trans h.1, fun o ho => (h2.2 o ho).trans (h.2 o ho)⟩
theorem kc.mo {B B' : List Nat} {σ σ1 : Sg} (h : kc B σ σ1) (hs : ∀ o ∈ B, o ∈ B') : kc B' σ σ1 := ⟨h.1, fun o ho => h.2 o (fun q => ho (hs o q))⟩
theorem kc.up {B : List Nat} {σ σ1 : Sg} (h : kc B σ σ1) {o : Nat} (ho : o ∈ B) (g : Nat → Int32) : kc B σ (upA σ1.1 o g, σ1.2) := by
  refine ⟨h.1, fun q hq => ?_⟩
  show upA σ1.1 o g q = _
  rw [upA_n (fun e => hq (by rw [e]; exact ho))]
  exact h.2 q hq
/-- a loop of N rounds -/
theorem iterC {T : Type} (Hd : Nat → T → Sg → Option Value → Sg → Prop) (Inv : Nat → T → Sg → Prop) (N : Nat)
    (body : ∀ k a τ, k < N → Inv k a τ → ∃ a1 τ1, Inv (k + 1) a1 τ1 ∧ ∀ r σ1, Hd (k + 1) a1 τ1 r σ1 → Hd k a τ r σ1) :
    ∀ i a τ, i ≤ N → Inv i a τ → ∃ a1 τ1, Inv N a1 τ1 ∧ ∀ r σ1, Hd N a1 τ1 r σ1 → Hd i a τ r σ1 := by
  have h : ∀ n i a τ, i + n = N → Inv i a τ → ∃ a1 τ1, Inv N a1 τ1 ∧ ∀ r σ1, Hd N a1 τ1 r σ1 → Hd i a τ r σ1 := by
    intro n
    induction n with
    | zero =>
      intro i a τ hi hI
      have : i = N := by omega
      subst this
      exact ⟨a, τ, hI, fun _ _ h => h⟩
    | succ n ih =>
      intro i a τ hi hI
      obtain ⟨a1, τ1, h1, h2⟩ := body i a τ (by omega) hI
      obtain ⟨a2, τ2, h3, h4⟩ := ih (i + 1) a1 τ1 (by omega) h1
      exact ⟨a2, τ2, h3, fun r σ1 q => h2 r σ1 (h4 r σ1 q)⟩
  intro i a τ hi hI
  exact h (N - i) i a τ (by omega) hI
/-- a loop that may end early -/
theorem iterCe {T : Type} (Hd : Nat → T → Sg → Option Value → Sg → Prop) (Inv : Nat → T → Sg → Prop) (En : Option Value → Sg → Prop) (N : Nat)
    (body : ∀ k a τ, k < N → Inv k a τ → (∃ a1 τ1, Inv (k + 1) a1 τ1 ∧ ∀ r σ1, Hd (k + 1) a1 τ1 r σ1 → Hd k a τ r σ1) ∨ ∃ r σ1, Hd k a τ r σ1 ∧ En r σ1) :
    ∀ i a τ, i ≤ N → Inv i a τ → (∃ a1 τ1, Inv N a1 τ1 ∧ ∀ r σ1, Hd N a1 τ1 r σ1 → Hd i a τ r σ1) ∨ ∃ r σ1, Hd i a τ r σ1 ∧ En r σ1 := by
  have h : ∀ n i a τ, i + n = N → Inv i a τ → (∃ a1 τ1, Inv N a1 τ1 ∧ ∀ r σ1, Hd N a1 τ1 r σ1 → Hd i a τ r σ1) ∨ ∃ r σ1, Hd i a τ r σ1 ∧ En r σ1 := by
    intro n
    induction n with
    | zero =>
      intro i a τ hi hI
      have : i = N := by omega
      subst this
      exact Or.inl ⟨a, τ, hI, fun _ _ h => h⟩
    | succ n ih =>
      intro i a τ hi hI
      rcases body i a τ (by omega) hI with ⟨a1, τ1, h1, h2⟩ | h
      · rcases ih (i + 1) a1 τ1 (by omega) h1 with ⟨a2, τ2, h3, h4⟩ | ⟨r, σ1, h3, h4⟩
        · exact Or.inl ⟨a2, τ2, h3, fun r σ1 q => h2 r σ1 (h4 r σ1 q)⟩
        · exact Or.inr ⟨r, σ1, h2 r σ1 h3, h4⟩
      · exact Or.inr h
  intro i a τ hi hI
  exact h (N - i) i a τ (by omega) hI
/-- a state, by its place, as a vector of 39 numbers -/
def stV (σ : Sg) (b : Nat) : Nat → Int32 := fun k => if k < 36 then σ.1 (b + 1 + k / 6) (k % 6) else σ.1 b (k - 30)
theorem stV_arr {σ : Sg} {w : (Nat → Nat → Int64) × (Nat → Nat → Value)} {b p k : Nat} {x : Int32} (hp : p < 6) (hk : k < 6) : stV (upA σ.1 (b + 1 + p) (upd (σ.1 (b + 1 + p)) k x), w) b = upd (stV σ b) (6 * p + k) x := by
  funext j
  show (if j < 36 then upA σ.1 (b + 1 + p) (upd (σ.1 (b + 1 + p)) k x) (b + 1 + j / 6) (j % 6) else upA σ.1 (b + 1 + p) (upd (σ.1 (b + 1 + p)) k x) b (j - 30)) = upd (stV σ b) (6 * p + k) x j
  by_cases hj : j < 36
  · rw [if_pos hj]
    by_cases e : j / 6 = p
    · rw [show b + 1 + j / 6 = b + 1 + p by omega, upA_s]
      by_cases e2 : j % 6 = k
      · rw [e2, upd_s, show j = 6 * p + k by omega, upd_s]
      · rw [upd_n e2, upd_n (by omega)]
        show _ = (if j < 36 then σ.1 (b + 1 + j / 6) (j % 6) else σ.1 b (j - 30))
        rw [if_pos hj, e]
    · rw [upA_n (by omega), upd_n (by omega)]
      show _ = (if j < 36 then σ.1 (b + 1 + j / 6) (j % 6) else σ.1 b (j - 30))
      rw [if_pos hj]
  · rw [if_neg hj, upA_n (by omega), upd_n (by omega)]
    show _ = (if j < 36 then σ.1 (b + 1 + j / 6) (j % 6) else σ.1 b (j - 30))
    rw [if_neg hj]
theorem stV_sc {σ : Sg} {w : (Nat → Nat → Int64) × (Nat → Nat → Value)} {b q : Nat} {x : Int32} : stV (upA σ.1 b (upd (σ.1 b) (6 + q) x), w) b = upd (stV σ b) (36 + q) x := by
  funext j
  show (if j < 36 then upA σ.1 b (upd (σ.1 b) (6 + q) x) (b + 1 + j / 6) (j % 6) else upA σ.1 b (upd (σ.1 b) (6 + q) x) b (j - 30)) = upd (stV σ b) (36 + q) x j
  by_cases hj : j < 36
  · rw [if_pos hj, upA_n (by omega), upd_n (by omega)]
    show _ = (if j < 36 then σ.1 (b + 1 + j / 6) (j % 6) else σ.1 b (j - 30))
    rw [if_pos hj]
  · rw [if_neg hj, upA_s]
    by_cases e : j - 30 = 6 + q
    · rw [e, upd_s, show j = 36 + q by omega, upd_s]
    · rw [upd_n e, upd_n (by omega)]
      show _ = (if j < 36 then σ.1 (b + 1 + j / 6) (j % 6) else σ.1 b (j - 30))
      rw [if_neg hj]
theorem stV_o {σ : Sg} {w : (Nat → Nat → Int64) × (Nat → Nat → Value)} {b o : Nat} {g : Nat → Int32} (h : o < b ∨ b + 6 < o) : stV (upA σ.1 o g, w) b = stV σ b := by
  funext j
  show (if j < 36 then upA σ.1 o g (b + 1 + j / 6) (j % 6) else upA σ.1 o g b (j - 30)) = (if j < 36 then σ.1 (b + 1 + j / 6) (j % 6) else σ.1 b (j - 30))
  by_cases hj : j < 36
  · rw [if_pos hj, if_pos hj, upA_n (by omega)]
  · rw [if_neg hj, if_neg hj, upA_n (by omega)]
theorem stV_kc {B : List Nat} {σ σ1 : Sg} {b : Nat} (h : kc B σ σ1) (hb : ∀ o ∈ B, o < b ∨ b + 6 < o) : stV σ1 b = stV σ b := by
  funext j
  show (if j < 36 then σ1.1 (b + 1 + j / 6) (j % 6) else σ1.1 b (j - 30)) = (if j < 36 then σ.1 (b + 1 + j / 6) (j % 6) else σ.1 b (j - 30))
  by_cases hj : j < 36
  · rw [if_pos hj, if_pos hj, h.2 (b + 1 + j / 6) (fun q => by have := hb _ q; omega)]
  · rw [if_neg hj, if_neg hj, h.2 b (fun q => by have := hb _ q; omega)]
theorem stV_rd {σ : Sg} {b p k : Nat} (hp : p < 6) (hk : k < 6) : σ.1 (b + 1 + p) k = stV σ b (6 * p + k) := by
  show _ = (if 6 * p + k < 36 then σ.1 (b + 1 + (6 * p + k) / 6) ((6 * p + k) % 6) else σ.1 b (6 * p + k - 30))
  rw [if_pos (by omega), show (6 * p + k) / 6 = p by omega, show (6 * p + k) % 6 = k by omega]
theorem stV_rs {σ : Sg} {b q : Nat} : σ.1 b (6 + q) = stV σ b (36 + q) := by
  show _ = (if 36 + q < 36 then σ.1 (b + 1 + (36 + q) / 6) ((36 + q) % 6) else σ.1 b (36 + q - 30))
  rw [if_neg (by omega), show 36 + q - 30 = 6 + q by omega]
theorem svn0 {σ : Sg} {w : (Nat → Nat → Int64) × (Nat → Nat → Value)} {k : Nat} {x : Int32} (hk : k < 6) : stV (upA σ.1 2 (upd (σ.1 2) k x), w) 1 = upd (stV σ 1) k x := by
  have h := stV_arr (σ := σ) (w := w) (b := 1) (p := 0) (x := x) (by decide) hk
  rw [Nat.mul_zero, Nat.zero_add] at h
  exact h
theorem svn1 {σ : Sg} {w : (Nat → Nat → Int64) × (Nat → Nat → Value)} {k : Nat} {x : Int32} (hk : k < 6) : stV (upA σ.1 3 (upd (σ.1 3) k x), w) 1 = upd (stV σ 1) (6 + k) x := stV_arr (σ := σ) (w := w) (b := 1) (p := 1) (x := x) (by decide) hk
theorem svn2 {σ : Sg} {w : (Nat → Nat → Int64) × (Nat → Nat → Value)} {k : Nat} {x : Int32} (hk : k < 6) : stV (upA σ.1 4 (upd (σ.1 4) k x), w) 1 = upd (stV σ 1) (12 + k) x := stV_arr (σ := σ) (w := w) (b := 1) (p := 2) (x := x) (by decide) hk
theorem svn3 {σ : Sg} {w : (Nat → Nat → Int64) × (Nat → Nat → Value)} {k : Nat} {x : Int32} (hk : k < 6) : stV (upA σ.1 5 (upd (σ.1 5) k x), w) 1 = upd (stV σ 1) (18 + k) x := stV_arr (σ := σ) (w := w) (b := 1) (p := 3) (x := x) (by decide) hk
theorem svn4 {σ : Sg} {w : (Nat → Nat → Int64) × (Nat → Nat → Value)} {k : Nat} {x : Int32} (hk : k < 6) : stV (upA σ.1 6 (upd (σ.1 6) k x), w) 1 = upd (stV σ 1) (24 + k) x := stV_arr (σ := σ) (w := w) (b := 1) (p := 4) (x := x) (by decide) hk
theorem svn5 {σ : Sg} {w : (Nat → Nat → Int64) × (Nat → Nat → Value)} {k : Nat} {x : Int32} (hk : k < 6) : stV (upA σ.1 7 (upd (σ.1 7) k x), w) 1 = upd (stV σ 1) (30 + k) x := stV_arr (σ := σ) (w := w) (b := 1) (p := 5) (x := x) (by decide) hk
theorem rdn0 {σ : Sg} {k : Nat} (hk : k < 6) : σ.1 2 k = stV σ 1 k := by
  have h := stV_rd (σ := σ) (b := 1) (p := 0) (by decide) hk
  rw [Nat.mul_zero, Nat.zero_add] at h
  exact h
theorem rdn1 {σ : Sg} {k : Nat} (hk : k < 6) : σ.1 3 k = stV σ 1 (6 + k) := stV_rd (σ := σ) (b := 1) (p := 1) (by decide) hk
theorem rdn2 {σ : Sg} {k : Nat} (hk : k < 6) : σ.1 4 k = stV σ 1 (12 + k) := stV_rd (σ := σ) (b := 1) (p := 2) (by decide) hk
theorem rdn3 {σ : Sg} {k : Nat} (hk : k < 6) : σ.1 5 k = stV σ 1 (18 + k) := stV_rd (σ := σ) (b := 1) (p := 3) (by decide) hk
theorem rdn4 {σ : Sg} {k : Nat} (hk : k < 6) : σ.1 6 k = stV σ 1 (24 + k) := stV_rd (σ := σ) (b := 1) (p := 4) (by decide) hk
theorem rdn5 {σ : Sg} {k : Nat} (hk : k < 6) : σ.1 7 k = stV σ 1 (30 + k) := stV_rd (σ := σ) (b := 1) (p := 5) (by decide) hk
theorem rdn6 {σ : Sg} : σ.1 1 6 = stV σ 1 36 := stV_rs (σ := σ) (b := 1) (q := 0)
theorem rdn7 {σ : Sg} : σ.1 1 7 = stV σ 1 37 := stV_rs (σ := σ) (b := 1) (q := 1)
theorem rdn8 {σ : Sg} : σ.1 1 8 = stV σ 1 38 := stV_rs (σ := σ) (b := 1) (q := 2)
theorem svn6 {σ : Sg} {w : (Nat → Nat → Int64) × (Nat → Nat → Value)} {x : Int32} : stV (upA σ.1 1 (upd (σ.1 1) 6 x), w) 1 = upd (stV σ 1) 36 x := stV_sc (σ := σ) (w := w) (b := 1) (q := 0) (x := x)
theorem svn7 {σ : Sg} {w : (Nat → Nat → Int64) × (Nat → Nat → Value)} {x : Int32} : stV (upA σ.1 1 (upd (σ.1 1) 7 x), w) 1 = upd (stV σ 1) 37 x := stV_sc (σ := σ) (w := w) (b := 1) (q := 1) (x := x)
theorem svn8 {σ : Sg} {w : (Nat → Nat → Int64) × (Nat → Nat → Value)} {x : Int32} : stV (upA σ.1 1 (upd (σ.1 1) 8 x), w) 1 = upd (stV σ 1) 38 x := stV_sc (σ := σ) (w := w) (b := 1) (q := 2) (x := x)
theorem svt0 {σ : Sg} {w : (Nat → Nat → Int64) × (Nat → Nat → Value)} {k : Nat} {x : Int32} (hk : k < 6) : stV (upA σ.1 9 (upd (σ.1 9) k x), w) 8 = upd (stV σ 8) k x := by
  have h := stV_arr (σ := σ) (w := w) (b := 8) (p := 0) (x := x) (by decide) hk
  rw [Nat.mul_zero, Nat.zero_add] at h
  exact h
theorem svt1 {σ : Sg} {w : (Nat → Nat → Int64) × (Nat → Nat → Value)} {k : Nat} {x : Int32} (hk : k < 6) : stV (upA σ.1 10 (upd (σ.1 10) k x), w) 8 = upd (stV σ 8) (6 + k) x := stV_arr (σ := σ) (w := w) (b := 8) (p := 1) (x := x) (by decide) hk
theorem svt2 {σ : Sg} {w : (Nat → Nat → Int64) × (Nat → Nat → Value)} {k : Nat} {x : Int32} (hk : k < 6) : stV (upA σ.1 11 (upd (σ.1 11) k x), w) 8 = upd (stV σ 8) (12 + k) x := stV_arr (σ := σ) (w := w) (b := 8) (p := 2) (x := x) (by decide) hk
theorem svt3 {σ : Sg} {w : (Nat → Nat → Int64) × (Nat → Nat → Value)} {k : Nat} {x : Int32} (hk : k < 6) : stV (upA σ.1 12 (upd (σ.1 12) k x), w) 8 = upd (stV σ 8) (18 + k) x := stV_arr (σ := σ) (w := w) (b := 8) (p := 3) (x := x) (by decide) hk
theorem svt4 {σ : Sg} {w : (Nat → Nat → Int64) × (Nat → Nat → Value)} {k : Nat} {x : Int32} (hk : k < 6) : stV (upA σ.1 13 (upd (σ.1 13) k x), w) 8 = upd (stV σ 8) (24 + k) x := stV_arr (σ := σ) (w := w) (b := 8) (p := 4) (x := x) (by decide) hk
theorem svt5 {σ : Sg} {w : (Nat → Nat → Int64) × (Nat → Nat → Value)} {k : Nat} {x : Int32} (hk : k < 6) : stV (upA σ.1 14 (upd (σ.1 14) k x), w) 8 = upd (stV σ 8) (30 + k) x := stV_arr (σ := σ) (w := w) (b := 8) (p := 5) (x := x) (by decide) hk
theorem rdt0 {σ : Sg} {k : Nat} (hk : k < 6) : σ.1 9 k = stV σ 8 k := by
  have h := stV_rd (σ := σ) (b := 8) (p := 0) (by decide) hk
  rw [Nat.mul_zero, Nat.zero_add] at h
  exact h
theorem rdt1 {σ : Sg} {k : Nat} (hk : k < 6) : σ.1 10 k = stV σ 8 (6 + k) := stV_rd (σ := σ) (b := 8) (p := 1) (by decide) hk
theorem rdt2 {σ : Sg} {k : Nat} (hk : k < 6) : σ.1 11 k = stV σ 8 (12 + k) := stV_rd (σ := σ) (b := 8) (p := 2) (by decide) hk
theorem rdt3 {σ : Sg} {k : Nat} (hk : k < 6) : σ.1 12 k = stV σ 8 (18 + k) := stV_rd (σ := σ) (b := 8) (p := 3) (by decide) hk
theorem rdt4 {σ : Sg} {k : Nat} (hk : k < 6) : σ.1 13 k = stV σ 8 (24 + k) := stV_rd (σ := σ) (b := 8) (p := 4) (by decide) hk
theorem rdt5 {σ : Sg} {k : Nat} (hk : k < 6) : σ.1 14 k = stV σ 8 (30 + k) := stV_rd (σ := σ) (b := 8) (p := 5) (by decide) hk
theorem rdt6 {σ : Sg} : σ.1 8 6 = stV σ 8 36 := stV_rs (σ := σ) (b := 8) (q := 0)
theorem rdt7 {σ : Sg} : σ.1 8 7 = stV σ 8 37 := stV_rs (σ := σ) (b := 8) (q := 1)
theorem rdt8 {σ : Sg} : σ.1 8 8 = stV σ 8 38 := stV_rs (σ := σ) (b := 8) (q := 2)
theorem svt6 {σ : Sg} {w : (Nat → Nat → Int64) × (Nat → Nat → Value)} {x : Int32} : stV (upA σ.1 8 (upd (σ.1 8) 6 x), w) 8 = upd (stV σ 8) 36 x := stV_sc (σ := σ) (w := w) (b := 8) (q := 0) (x := x)
theorem svt7 {σ : Sg} {w : (Nat → Nat → Int64) × (Nat → Nat → Value)} {x : Int32} : stV (upA σ.1 8 (upd (σ.1 8) 7 x), w) 8 = upd (stV σ 8) 37 x := stV_sc (σ := σ) (w := w) (b := 8) (q := 1) (x := x)
theorem svt8 {σ : Sg} {w : (Nat → Nat → Int64) × (Nat → Nat → Value)} {x : Int32} : stV (upA σ.1 8 (upd (σ.1 8) 8 x), w) 8 = upd (stV σ 8) 38 x := stV_sc (σ := σ) (w := w) (b := 8) (q := 2) (x := x)
/-! numbers from 0 to 99 -/
def okn (x : Int32) : Prop := 0 ≤ x.toInt ∧ x.toInt ≤ 99
theorem okn_nI {x : Int32} (h : okn x) : ∃ n, n ≤ 99 ∧ x = nI n := by
  refine ⟨x.toInt.toNat, by have := h.2; omega, ?_⟩
  apply Int32.toInt_inj.mp
  rw [nI_toInt (by have := h.2; omega)]
  have := h.1
  omega
theorem nI_okn {n : Nat} (h : n ≤ 99) : okn (nI n) := by
  unfold okn
  rw [nI_toInt (by omega)]
  omega
theorem over_max {x y : Int32} (hx : okn x) (hy : okn y) : sj_max 0 (x - y) = s8_over x y := by
  obtain ⟨a, ha, rfl⟩ := okn_nI hx
  obtain ⟨b, hb, rfl⟩ := okn_nI hy
  unfold sj_max s8_over
  by_cases h : a ≤ b
  · rw [if_pos (nI_le h (by omega))]
    by_cases e : a = b
    · subst e
      have : nI a - nI a = 0 := by rw [pk_sub (Nat.le_refl _), Nat.sub_self]; rfl
      rw [this, if_neg (by decide)]
    · rw [if_neg]
      intro q
      have := pk_sneg (a := a) (b := b) (by omega) (by omega)
      rw [Int32.lt_iff_toInt_lt] at this q
      omega
  · have h' : b ≤ a := by omega
    rw [pk_sub h', if_neg (fun q => h ((nI_leI (by omega) (by omega)).mp q))]
    by_cases e : a - b = 0
    · omega
    · rw [if_pos]
      exact nI_lt (a := 0) (b := a - b) (by omega) (by omega)
theorem within_c (v : Int32) : s0_within v 999 = s8_within v 999 := by
  unfold s0_within s8_within sj_max sj_min
  have e0 : (0 : Int32).toInt = 0 := rfl
  have e9 : (999 : Int32).toInt = 999 := rfl
  by_cases h1 : v < 999
  · rw [if_pos h1]
    by_cases h2 : 0 ≤ v
    · rw [if_pos h2, if_pos (Int32.le_iff_toInt_le.mpr (by rw [Int32.lt_iff_toInt_lt] at h1; omega))]
      by_cases h3 : 0 < v
      · rw [if_pos h3]
      · rw [if_neg h3]
        apply Int32.toInt_inj.mp
        rw [Int32.lt_iff_toInt_lt] at h3
        rw [Int32.le_iff_toInt_le] at h2
        omega
    · rw [if_neg h2, if_neg]
      intro q
      rw [Int32.lt_iff_toInt_lt] at q
      rw [Int32.le_iff_toInt_le] at h2
      omega
  · rw [if_neg h1, if_pos (by decide)]
    rw [Int32.lt_iff_toInt_lt] at h1
    rw [if_pos (Int32.le_iff_toInt_le.mpr (by omega))]
    by_cases h2 : v ≤ 999
    · rw [if_pos h2]
      apply Int32.toInt_inj.mp
      rw [Int32.le_iff_toInt_le] at h2
      omega
    · rw [if_neg h2]
/-! the environment of the misfits, out of the regiment in force -/
def stL (ρ : Rho) : List (Int32 × Int32) := match rIll ρ with
  | none => []
  | some q => q.2.2
def eC (ρ : Rho) : E8 := ((match rIll ρ with | none => 0 | some _ => 1), (stL ρ).length, (fun k => ((stL ρ).getD k (0, 0)).1), (fun k => ((stL ρ).getD k (0, 0)).2), (fun m => mnI ρ m 1), rgI ρ 9)
theorem rpn_runL (q : Nat → Int32) (L : List (Int32 × Int32)) : rpn q (fun k => (L.getD k (0, 0)).1) (fun k => (L.getD k (0, 0)).2) L.length = runL q L [] := by
  have h : ∀ k, k ≤ L.length → rpn q (fun k => (L.getD k (0, 0)).1) (fun k => (L.getD k (0, 0)).2) k = runL q (L.take k) [] := by
    intro k
    induction k with
    | zero => intro _; rfl
    | succ k ih =>
      intro hk
      show rpn1 q _ _ (rpn q _ _ k) = _
      rw [ih (by omega), List.take_succ_eq_append_getElem (by omega), runL_app]
      have e : L.getD k (0, 0) = L[k] := by
        rw [List.getD_eq_getElem?_getD, List.getElem?_eq_getElem (by omega)]
        rfl
      show rpn1 q (L.getD k (0, 0)).1 (L.getD k (0, 0)).2 _ = _
      rw [e]
      rfl
  rw [h _ (Nat.le_refl _), List.take_length]
theorem runL_congr {q1 q2 : Nat → Int32} : ∀ (L : List (Int32 × Int32)) (stk : List Int32), (∀ p ∈ L, p.1 = 1 → q1 p.2.toNatClampNeg = q2 p.2.toNatClampNeg) → runL q1 L stk = runL q2 L stk := by
  intro L
  induction L with
  | nil => intro _ _; rfl
  | cons p L ih =>
    intro stk h
    show runL q1 L (rpn1 q1 p.1 p.2 stk) = runL q2 L (rpn1 q2 p.1 p.2 stk)
    have e : rpn1 q1 p.1 p.2 stk = rpn1 q2 p.1 p.2 stk := by
      unfold rpn1
      by_cases h1 : p.1 = 1
      · rw [h p List.mem_cons_self h1]
      · rw [if_neg h1, if_neg h1]
    rw [e]
    exact ih _ (fun p hp => h p (List.mem_cons_of_mem _ hp))
/-- what is asked for lies among the six -/
def okQ (ρ : Rho) : Prop := ∀ p ∈ stL ρ, p.1 = 1 → vp_in p.2 6
/-- men's and coats' numbers are from 0 to 99 -/
def rgV (v : Nat → Int32) (nm nc : Nat) : Prop := (∀ m, m < nm → okn (v m)) ∧ ∀ c, c < nc → okn (v (12 + c)) ∧ okn (v (18 + c)) ∧ okn (v (24 + c)) ∧ okn (v (30 + c))
def tlV (ρ : Rho) : Prop := ρ.1 0 ≤ 6 ∧ ρ.1 1 ≤ 6 ∧ (∀ m, m < ρ.1 0 → okn (mnI ρ m 1)) ∧ okQ ρ
theorem misSum {a b c d e : Int32} (ha : okn a) (hb : okn b) (hc : okn c) (hd : okn d) (he : okn e) : sj_min 999 (((((a * 3) + b) + (c * 2)) + d) + e) = s8_within (((((3 * a) + b) + (2 * c)) + d) + e) 999 := by
  obtain ⟨a, ha, rfl⟩ := okn_nI ha
  obtain ⟨b, hb, rfl⟩ := okn_nI hb
  obtain ⟨c, hc, rfl⟩ := okn_nI hc
  obtain ⟨d, hd, rfl⟩ := okn_nI hd
  obtain ⟨e, he, rfl⟩ := okn_nI he
  have e1 : ((((nI a * 3) + nI b) + (nI c * 2)) + nI d) + nI e = nI (a * 3 + b + c * 2 + d + e) := by
    rw [show (3 : Int32) = nI 3 from rfl, show (2 : Int32) = nI 2 from rfl, pk_mul, pk_mul, nI_add, nI_add, nI_add, nI_add]
  have e2 : ((((3 * nI a) + nI b) + (2 * nI c)) + nI d) + nI e = nI (a * 3 + b + c * 2 + d + e) := by
    rw [show (3 : Int32) = nI 3 from rfl, show (2 : Int32) = nI 2 from rfl, pk_mul, pk_mul, nI_add, nI_add, nI_add, nI_add, Nat.mul_comm 3, Nat.mul_comm 2]
  rw [e1, e2]
  generalize hn : a * 3 + b + c * 2 + d + e = n
  have hn9 : n ≤ 99 * 8 := by omega
  unfold sj_min s8_within
  rw [if_pos (show nI n < 999 from nI_lt (b := 999) (by omega) (by decide)), if_pos (nI_pos' (by omega)), if_pos (show nI n ≤ 999 from nI_le (b := 999) (by omega) (by decide))]
theorem over_ok {x y : Int32} (hx : okn x) (hy : okn y) : okn (s8_over x y) := by
  obtain ⟨a, ha, rfl⟩ := okn_nI hx
  obtain ⟨b, hb, rfl⟩ := okn_nI hy
  unfold s8_over
  split
  · exact nI_okn (n := 0) (by omega)
  · rename_i h
    have h' : b ≤ a := by
      by_cases q : b ≤ a
      · exact q
      · exact absurd (nI_le (by omega) (by omega)) h
    rw [pk_sub h']
    exact nI_okn (by omega)
theorem misCn (d : Nat) {ρ : Rho} {E : Hp → Prop} {A : Nat → Nat} {σ : Sg} {m c : Nat} (hT : tlV ρ) (hm : m < ρ.1 0) (hc : c < 6) (h1 : okn (stV σ 1 m)) (h2 : okn (stV σ 1 (12 + c))) (h3 : okn (stV σ 1 (18 + c))) (h4 : okn (stV σ 1 (30 + c))) : ∃ σ1, Tv ρ E A mX1_misfit (d + 301) 0 0 [.ref (ρ.1 2), .ref (A 1), .int (nI m), .int (nI c)] σ (some (.int (misE (eC ρ) (stV σ 1) m c))) σ1 ∧ kc [30] σ σ1 := by
  obtain ⟨h6, h6c, htl, hQ⟩ := hT
  have cm : (nI m).toNatClampNeg = m := cl (by omega)
  have cc : (nI c).toNatClampNeg = c := cl (by omega)
  have ht := htl m hm
  have b1 : vp_in (nI m) 6 := vin (by omega) (by decide)
  have b2 : vp_in (nI c) 6 := vin (by omega) (by decide)
  have b3 : vp_in (nI m) (ρ.1 0) := vin hm (by omega)
  cases hI : rIll ρ with
  | none =>
    refine ⟨σ, Tv.of [.ref (ρ.1 2), .ref (A 1), .int (nI m), .int (nI c), U_, U_, U_, U_] (by decide) rfl (fun _ => Nat.le_of_ble_eq_true rfl) rfl (gc_X1_misfitn_0 ⟨b1, b2, b3, fun q hq => by rw [hI] at hq; (cases hq), fun _ => ⟨?_, rfl⟩⟩), kc.rf⟩
    rw [cm, cc, rdn0 (by omega), rdn2 hc, rdn3 hc, rdn5 hc, over_max h1 h3, over_max h3 h1, over_max ht h2, over_max h2 ht, misSum (over_ok h1 h3) (over_ok h3 h1) (over_ok ht h2) (over_ok h2 ht) h4]
    unfold misE mis8 eC
    rw [hI, if_pos rfl]
  | some q =>
    refine ⟨(upA σ.1 30 _, σ.2), Tv.of [.ref (ρ.1 2), .ref (A 1), .int (nI m), .int (nI c), U_, U_, U_, U_] (by decide) rfl (fun _ => Nat.le_of_ble_eq_true rfl) rfl (gc_X1_misfitn_0 ⟨b1, b2, b3, fun q2 hq => ⟨hq, ?_, rfl⟩, fun hq => by rw [hI] at hq; cases hq⟩), (kc.rf (B := [30])).up (o := 30) (by decide) _⟩
    rw [hI] at hq
    cases hq
    rw [cm, cc, rdn0 (by omega), rdn2 hc, rdn3 hc, rdn5 hc, rdn7, over_max h1 h3, over_max h3 h1, over_max ht h2, over_max h2 ht, within_c]
    have e1 : misE (eC ρ) (stV σ 1) m c = s8_within ((runL (asks8 (fun m => mnI ρ m 1) (stV σ 1) m c) q.2.2 []).headD 0) 999 := by
      have hs : stL ρ = q.2.2 := by unfold stL; rw [hI]
      unfold misE mis8 eC
      rw [hI, if_neg (show ¬ (1 : Int32) = 0 by decide), hs]
      show s8_within ((rpn _ (fun k => (q.2.2.getD k (0, 0)).1) (fun k => (q.2.2.getD k (0, 0)).2) q.2.2.length).headD 0) 999 = _
      rw [rpn_runL]
    rw [e1]
    congr 4
    refine runL_congr _ _ (fun p hp h1p => ?_)
    have hv := hQ p (by unfold stL; rw [hI]; exact hp) h1p
    obtain ⟨j, hj, ej⟩ := vp_in_of hv (by decide)
    rw [ej, cl (by omega)]
    match j, hj with
    | 0, _ => rfl
    | 1, _ => rfl
    | 2, _ => rfl
    | 3, _ => rfl
    | 4, _ => rfl
    | 5, _ => rfl
theorem fitCn (d : Nat) {ρ : Rho} {E : Hp → Prop} {A : Nat → Nat} {σ : Sg} {m c : Nat} (hT : tlV ρ) (hm : m < ρ.1 0) (hc : c < ρ.1 1) (hr : rgV (stV σ 1) (ρ.1 0) (ρ.1 1)) : ∃ σ1, Tv ρ E A mX1_fits (d + 302) 0 0 [.ref (ρ.1 2), .ref (A 1), .int (nI m), .int (nI c)] σ (some (.int (bi (fitE (eC ρ) (stV σ 1) m c)))) σ1 ∧ kc [30] σ σ1 := by
  have h6 := hT.1
  have h6c := hT.2.1
  obtain ⟨r1, r2, r3, r4⟩ := hr.2 c hc
  obtain ⟨σ1, q1, q2⟩ := misCn d (E := E) (A := A) hT hm (show c < 6 by omega) (hr.1 m hm) r1 r2 r4
  refine ⟨σ1, Tv.of [.ref (ρ.1 2), .ref (A 1), .int (nI m), .int (nI c)] (by decide) rfl (fun _ => Nat.le_of_ble_eq_true rfl) q1.1 (gc_X1_fitsn_0 ⟨fun q => absurd q (nI_nneg (by omega)), fun _ => ⟨_, _, q1, ?_, rfl⟩⟩), q2⟩
  rw [bi_ifn]
  congr 3
  unfold fitE
  simp only [i32_nlt]
  rfl
theorem fitCnn (d : Nat) {ρ : Rho} {E : Hp → Prop} {A : Nat → Nat} {σ : Sg} {m c : Int32} (hc : c < 0) : Tv ρ E A mX1_fits (d + 302) 0 0 [.ref (ρ.1 2), .ref (A 1), .int m, .int c] σ (some (.int (bi false))) σ :=
  Tv.of [.ref (ρ.1 2), .ref (A 1), .int m, .int c] (by decide) rfl (fun _ => Nat.le_of_ble_eq_true rfl) rfl (gc_X1_fitsn_0 ⟨fun _ => ⟨rfl, rfl⟩, fun q => absurd hc q⟩)
theorem ownCn (d : Nat) {ρ : Rho} {E : Hp → Prop} {A : Nat → Nat} {σ : Sg} {m : Nat} (hT : tlV ρ) (hm : m < ρ.1 0) (hr : rgV (stV σ 1) (ρ.1 0) (ρ.1 1)) {v : Nat → Int32} {w : Int32} (hv : stV σ 1 = v) (hw : w = -1 ∨ ∃ c, c < ρ.1 1 ∧ w = nI c) : ∃ σ1, Tv ρ E A mX1_fits (d + 302) 0 0 [.ref (ρ.1 2), .ref (A 1), .int (nI m), .int w] σ (some (.int (bi (if w < 0 then false else fitE (eC ρ) v m w.toNatClampNeg)))) σ1 ∧ kc [30] σ σ1 := by
  subst hv
  rcases hw with h | ⟨c, hc, h⟩
  · subst h
    exact ⟨σ, fitCnn d (by decide), kc.rf⟩
  · have h6c := hT.2.1
    obtain ⟨σ1, q1, q2⟩ := fitCn d (E := E) (A := A) (c := c) hT hm hc hr
    subst h
    rw [if_neg (nI_nneg (by omega)), cl (by omega)]
    exact ⟨σ1, q1, q2⟩
theorem misCt (d : Nat) {ρ : Rho} {E : Hp → Prop} {A : Nat → Nat} {σ : Sg} {m c : Nat} (hT : tlV ρ) (hm : m < ρ.1 0) (hc : c < 6) (h1 : okn (stV σ 8 m)) (h2 : okn (stV σ 8 (12 + c))) (h3 : okn (stV σ 8 (18 + c))) (h4 : okn (stV σ 8 (30 + c))) : ∃ σ1, Tv ρ E A mX1_misfit (d + 301) 0 0 [.ref (ρ.1 2), .ref (A 8), .int (nI m), .int (nI c)] σ (some (.int (misE (eC ρ) (stV σ 8) m c))) σ1 ∧ kc [30] σ σ1 := by
  obtain ⟨h6, h6c, htl, hQ⟩ := hT
  have cm : (nI m).toNatClampNeg = m := cl (by omega)
  have cc : (nI c).toNatClampNeg = c := cl (by omega)
  have ht := htl m hm
  have b1 : vp_in (nI m) 6 := vin (by omega) (by decide)
  have b2 : vp_in (nI c) 6 := vin (by omega) (by decide)
  have b3 : vp_in (nI m) (ρ.1 0) := vin hm (by omega)
  cases hI : rIll ρ with
  | none =>
    refine ⟨σ, Tv.of [.ref (ρ.1 2), .ref (A 8), .int (nI m), .int (nI c), U_, U_, U_, U_] (by decide) rfl (fun _ => Nat.le_of_ble_eq_true rfl) rfl (gc_X1_misfitt_0 ⟨b1, b2, b3, fun q hq => by rw [hI] at hq; (cases hq), fun _ => ⟨?_, rfl⟩⟩), kc.rf⟩
    rw [cm, cc, rdt0 (by omega), rdt2 hc, rdt3 hc, rdt5 hc, over_max h1 h3, over_max h3 h1, over_max ht h2, over_max h2 ht, misSum (over_ok h1 h3) (over_ok h3 h1) (over_ok ht h2) (over_ok h2 ht) h4]
    unfold misE mis8 eC
    rw [hI, if_pos rfl]
  | some q =>
    refine ⟨(upA σ.1 30 _, σ.2), Tv.of [.ref (ρ.1 2), .ref (A 8), .int (nI m), .int (nI c), U_, U_, U_, U_] (by decide) rfl (fun _ => Nat.le_of_ble_eq_true rfl) rfl (gc_X1_misfitt_0 ⟨b1, b2, b3, fun q2 hq => ⟨hq, ?_, rfl⟩, fun hq => by rw [hI] at hq; cases hq⟩), (kc.rf (B := [30])).up (o := 30) (by decide) _⟩
    rw [hI] at hq
    cases hq
    rw [cm, cc, rdt0 (by omega), rdt2 hc, rdt3 hc, rdt5 hc, rdt7, over_max h1 h3, over_max h3 h1, over_max ht h2, over_max h2 ht, within_c]
    have e1 : misE (eC ρ) (stV σ 8) m c = s8_within ((runL (asks8 (fun m => mnI ρ m 1) (stV σ 8) m c) q.2.2 []).headD 0) 999 := by
      have hs : stL ρ = q.2.2 := by unfold stL; rw [hI]
      unfold misE mis8 eC
      rw [hI, if_neg (show ¬ (1 : Int32) = 0 by decide), hs]
      show s8_within ((rpn _ (fun k => (q.2.2.getD k (0, 0)).1) (fun k => (q.2.2.getD k (0, 0)).2) q.2.2.length).headD 0) 999 = _
      rw [rpn_runL]
    rw [e1]
    congr 4
    refine runL_congr _ _ (fun p hp h1p => ?_)
    have hv := hQ p (by unfold stL; rw [hI]; exact hp) h1p
    obtain ⟨j, hj, ej⟩ := vp_in_of hv (by decide)
    rw [ej, cl (by omega)]
    match j, hj with
    | 0, _ => rfl
    | 1, _ => rfl
    | 2, _ => rfl
    | 3, _ => rfl
    | 4, _ => rfl
    | 5, _ => rfl
theorem fitCt (d : Nat) {ρ : Rho} {E : Hp → Prop} {A : Nat → Nat} {σ : Sg} {m c : Nat} (hT : tlV ρ) (hm : m < ρ.1 0) (hc : c < ρ.1 1) (hr : rgV (stV σ 8) (ρ.1 0) (ρ.1 1)) : ∃ σ1, Tv ρ E A mX1_fits (d + 302) 0 0 [.ref (ρ.1 2), .ref (A 8), .int (nI m), .int (nI c)] σ (some (.int (bi (fitE (eC ρ) (stV σ 8) m c)))) σ1 ∧ kc [30] σ σ1 := by
  have h6 := hT.1
  have h6c := hT.2.1
  obtain ⟨r1, r2, r3, r4⟩ := hr.2 c hc
  obtain ⟨σ1, q1, q2⟩ := misCt d (E := E) (A := A) hT hm (show c < 6 by omega) (hr.1 m hm) r1 r2 r4
  refine ⟨σ1, Tv.of [.ref (ρ.1 2), .ref (A 8), .int (nI m), .int (nI c)] (by decide) rfl (fun _ => Nat.le_of_ble_eq_true rfl) q1.1 (gc_X1_fitst_0 ⟨fun q => absurd q (nI_nneg (by omega)), fun _ => ⟨_, _, q1, ?_, rfl⟩⟩), q2⟩
  rw [bi_ifn]
  congr 3
  unfold fitE
  simp only [i32_nlt]
  rfl
theorem fitCnt (d : Nat) {ρ : Rho} {E : Hp → Prop} {A : Nat → Nat} {σ : Sg} {m c : Int32} (hc : c < 0) : Tv ρ E A mX1_fits (d + 302) 0 0 [.ref (ρ.1 2), .ref (A 8), .int m, .int c] σ (some (.int (bi false))) σ :=
  Tv.of [.ref (ρ.1 2), .ref (A 8), .int m, .int c] (by decide) rfl (fun _ => Nat.le_of_ble_eq_true rfl) rfl (gc_X1_fitst_0 ⟨fun _ => ⟨rfl, rfl⟩, fun q => absurd hc q⟩)
theorem ownCt (d : Nat) {ρ : Rho} {E : Hp → Prop} {A : Nat → Nat} {σ : Sg} {m : Nat} (hT : tlV ρ) (hm : m < ρ.1 0) (hr : rgV (stV σ 8) (ρ.1 0) (ρ.1 1)) {v : Nat → Int32} {w : Int32} (hv : stV σ 8 = v) (hw : w = -1 ∨ ∃ c, c < ρ.1 1 ∧ w = nI c) : ∃ σ1, Tv ρ E A mX1_fits (d + 302) 0 0 [.ref (ρ.1 2), .ref (A 8), .int (nI m), .int w] σ (some (.int (bi (if w < 0 then false else fitE (eC ρ) v m w.toNatClampNeg)))) σ1 ∧ kc [30] σ σ1 := by
  subst hv
  rcases hw with h | ⟨c, hc, h⟩
  · subst h
    exact ⟨σ, fitCnt d (by decide), kc.rf⟩
  · have h6c := hT.2.1
    obtain ⟨σ1, q1, q2⟩ := fitCt d (E := E) (A := A) (c := c) hT hm hc hr
    subst h
    rw [if_neg (nI_nneg (by omega)), cl (by omega)]
    exact ⟨σ1, q1, q2⟩
