/-! the twin's reader: token -/
set_option maxRecDepth 100000
theorem runF_all {f : Int32 → Bool} {t : Nat → Int32} {len : Nat} : ∀ n p k, p ≤ k → k < runF f t len n p → f (ch t len k) = true := by
  intro n
  induction n with
  | zero =>
    intro p k h1 h2
    have h2 : k < p := h2
    omega
  | succ n ih =>
    intro p k h1 h2
    have h2 : k < (if f (ch t len p) then runF f t len n (p + 1) else p) := h2
    cases hf : f (ch t len p)
    · rw [hf, if_neg (by decide)] at h2
      omega
    · rw [hf, if_pos rfl] at h2
      by_cases e : k = p
      · rw [e]; exact hf
      · exact ih (p + 1) k (by omega) h2
theorem runF_end {f : Int32 → Bool} (hf : f (-1) = false) {t : Nat → Int32} {len : Nat} : ∀ n p, len ≤ p + n → f (ch t len (runF f t len n p)) = false := by
  intro n
  induction n with
  | zero =>
    intro p h
    show f (ch t len p) = false
    unfold ch
    rw [if_neg (by omega)]
    exact hf
  | succ n ih =>
    intro p h
    show f (ch t len (if f (ch t len p) then runF f t len n (p + 1) else p)) = false
    cases hc : f (ch t len p)
    · rw [if_neg (by decide)]; exact hc
    · rw [if_pos rfl]; exact ih (p + 1) (by omega)
theorem runTo_all {f : Int32 → Bool} {t : Nat → Int32} {len p k : Nat} (h1 : p ≤ k) (h2 : k < runTo f t len p) : f (ch t len k) = true := runF_all _ p k h1 h2
theorem runTo_end {f : Int32 → Bool} (hf : f (-1) = false) {t : Nat → Int32} {len p : Nat} : f (ch t len (runTo f t len p)) = false := runF_end hf _ p (by omega)
/-- the ints of a reader within a token at q -/
def FF (f : Nat → Int32) (q : Nat) (x : Int32) : Nat → Int32 := fun j => if j = 7 then nI q else if j = 8 then x else f j
theorem FF_i (f : Nat → Int32) (q : Nat) : upd (upd f 7 (nI q)) 8 0 = FF f q 0 := by
  funext j
  unfold FF
  by_cases e : j = 8
  · rw [e, upd_s]; rfl
  · rw [upd_n e]
    by_cases e7 : j = 7
    · rw [e7, upd_s]; rfl
    · rw [upd_n e7, if_neg e7, if_neg e]
theorem FF_u (f : Nat → Int32) (q : Nat) (x y : Int32) : upd (FF f q x) 8 y = FF f q y := by
  funext j
  by_cases e : j = 8
  · rw [e, upd_s]; rfl
  · rw [upd_n e]
    unfold FF
    rw [if_neg e, if_neg e]
theorem endA (f : Nat → Int32) (q a : Nat) (x s : Int32) (w : Int64) : upd (upd (FF f q x) 6 s) 4 (nI a) = tokI f q (s, x, w, a) := by
  funext j
  unfold tokI
  by_cases e : j = 4
  · rw [e, upd_s]; rfl
  · rw [upd_n e, if_neg e]
    by_cases e6 : j = 6
    · rw [e6, upd_s]; rfl
    · rw [upd_n e6, if_neg e6]
      rfl
theorem endB (f : Nat → Int32) (q : Nat) (x s : Int32) (w : Int64) (h : f 4 = nI q) : upd (FF f q x) 6 s = tokI f q (s, x, w, q) := by
  funext j
  unfold tokI
  by_cases e : j = 4
  · rw [e, upd_n (by decide)]; exact h
  · rw [if_neg e]
    by_cases e6 : j = 6
    · rw [e6, upd_s]; rfl
    · rw [upd_n e6, if_neg e6]
      rfl
theorem okT_F {σ : S8} {len q : Nat} {x : Int32} {w : Int64} (h : okT σ len q) : okT (FF σ.1 q x, σ.2.1, w, σ.2.2.2) len q := h
theorem tokenL (d : Nat) (σ : S8) {len q : Nat} (c : Int32) (h : okT σ len q) : Rn8 mX8_token (d + 2) 78 [.int c, .int 0] (fun _ => []) (FF σ.1 q 0, σ.2.1, 0, σ.2.2.2) none (tokI σ.1 q (if runTo isL (σ.2.1 0) len q - q ≤ 8 then 1 else 3, 0, wdF (σ.2.1 0) q (runTo isL (σ.2.1 0) len q - q), if runTo isL (σ.2.1 0) len q - q ≤ 8 then runTo isL (σ.2.1 0) len q else q), σ.2.1, wdF (σ.2.1 0) q (runTo isL (σ.2.1 0) len q - q), σ.2.2.2) := by
  have hl := runTo_le isL (σ.2.1 0) h.2.2.2
  have hall : ∀ k, q ≤ k → k < runTo isL (σ.2.1 0) len q → isL (ch (σ.2.1 0) len k) = true := fun k h1 h2 => runTo_all h1 h2
  have hend : isL (ch (σ.2.1 0) len (runTo isL (σ.2.1 0) len q)) = false := runTo_end (by decide)
  have h16 := h.2.1
  generalize runTo isL (σ.2.1 0) len q = e at *
  obtain ⟨_, τ, a1, a3⟩ := iter8 (A := Unit) (fun k _ τ r σ2 => Rn8 mX8_token (d + 2) 78 [.int c, .int (nI k)] (fun _ => []) τ r σ2) (fun k _ τ => τ = (FF σ.1 q 0, σ.2.1, wdF (σ.2.1 0) q k, σ.2.2.2)) (e - q) (by
    rintro k ⟨⟩ τ hk rfl
    refine ⟨(), _, rfl, fun r σ2 hh => ?_⟩
    have hL := hall (q + k) (by omega) (by omega)
    have hc : ch (σ.2.1 0) len (q + k) = σ.2.1 0 (q + k) := if_pos (ch_lt (f := isL) (by decide) hL)
    have th := hereT8 d (FF σ.1 q 0, σ.2.1, wdF (σ.2.1 0) q k, σ.2.2.2) (okT_F (w := wdF (σ.2.1 0) q k) (x := 0) h) (k := k) (by omega)
    refine g8_token_78 ⟨_, _, th, fun y => absurd y (of_decide_eq_true hL), fun _ => ⟨fun y => ?_, fun y => ⟨_, _, th, ?_⟩⟩⟩
    · rw [wdF_s, if_neg (fun z => absurd y (nI_ge (b := 8) z (by decide)))] at hh
      rw [nI_1]; exact hh
    · have z : k < 8 := by
        by_cases z : k < 8
        · exact z
        · exact absurd (nI_le (a := 8) (by omega) (by omega)) y
      rw [wdF_s, if_pos z] at hh
      rw [nI_1, hc]
      exact hh) 0 () (FF σ.1 q 0, σ.2.1, 0, σ.2.2.2) (Nat.zero_le _) rfl
  subst a1
  have th := hereT8 d (FF σ.1 q 0, σ.2.1, wdF (σ.2.1 0) q (e - q), σ.2.2.2) (okT_F (w := wdF (σ.2.1 0) q (e - q)) (x := 0) h) (k := e - q) (by omega)
  rw [show q + (e - q) = e by omega] at th
  have h4 : (FF σ.1 q 0) 4 + nI (e - q) = nI e := by
    show σ.1 4 + nI (e - q) = nI e
    rw [h.2.2.1, nI_add, show q + (e - q) = e by omega]
  refine a3 _ _ (g8_token_78 ⟨_, _, th, fun _ => ?_, fun y => absurd (of_decide_eq_false hend) (not_not_intro y)⟩)
  by_cases z : e - q ≤ 8
  · have z1 : nI (e - q) ≤ 8 := nI_le (b := 8) z (by decide)
    rw [if_pos z, if_pos z1, if_pos z]
    refine ⟨fun y => absurd y (by decide), fun _ => ⟨rfl, ?_⟩⟩
    show _ = (upd (upd (FF σ.1 q 0) 6 1) 4 ((FF σ.1 q 0) 4 + nI (e - q)), σ.2.1, wdF (σ.2.1 0) q (e - q), σ.2.2.2)
    rw [h4, endA σ.1 q e 0 1 (wdF (σ.2.1 0) q (e - q))]
  · have z1 : ¬ nI (e - q) ≤ 8 := nI_ge (a := 8) (by omega) (by omega)
    rw [if_neg z, if_neg z1, if_neg z]
    refine ⟨fun _ => ⟨rfl, ?_⟩, fun y => absurd rfl y⟩
    show _ = (upd (FF σ.1 q 0) 6 3, σ.2.1, wdF (σ.2.1 0) q (e - q), σ.2.2.2)
    rw [endB σ.1 q 0 3 (wdF (σ.2.1 0) q (e - q)) h.2.2.1]
