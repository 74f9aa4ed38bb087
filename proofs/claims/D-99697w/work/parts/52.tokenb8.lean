/-! the twin's reader: token, its numbers and all -/
set_option maxRecDepth 100000
theorem nI_lt4 {k : Nat} (hk : k < 1000000) : (4 : Int32) < nI k ↔ 4 < k := by
  constructor
  · intro h
    by_cases z : 4 < k
    · exact z
    · have y : nI k ≤ 4 := nI_le (a := k) (b := 4) (by omega) (by decide)
      exact absurd h (i32_nlt.mpr y)
  · intro h
    have := nI_ge (a := 4) h (by omega)
    rw [← i32_nlt] at this
    exact Classical.not_not.mp this
theorem tokenD (d : Nat) (σ : S8) {len q : Nat} (c : Int32) (h : okT σ len q) : Rn8 mX8_token (d + 2) 144 [.int c, .int 0] (fun _ => []) (FF σ.1 q 0, σ.2.1, 0, σ.2.2.2) none (tokI σ.1 q (if 4 < runTo isD (σ.2.1 0) len q - q ∨ isL (ch (σ.2.1 0) len (runTo isD (σ.2.1 0) len q)) then 3 else 2, nbF (σ.2.1 0) q (runTo isD (σ.2.1 0) len q - q), 0, if 4 < runTo isD (σ.2.1 0) len q - q ∨ isL (ch (σ.2.1 0) len (runTo isD (σ.2.1 0) len q)) then q else runTo isD (σ.2.1 0) len q), σ.2.1, 0, σ.2.2.2) := by
  have hl := runTo_le isD (σ.2.1 0) h.2.2.2
  have hall : ∀ k, q ≤ k → k < runTo isD (σ.2.1 0) len q → isD (ch (σ.2.1 0) len k) = true := fun k h1 h2 => runTo_all h1 h2
  have hend : isD (ch (σ.2.1 0) len (runTo isD (σ.2.1 0) len q)) = false := runTo_end (by decide)
  have h16 := h.2.1
  generalize runTo isD (σ.2.1 0) len q = e at *
  obtain ⟨_, τ, a1, a3⟩ := iter8 (A := Unit) (fun k _ τ r σ2 => Rn8 mX8_token (d + 2) 144 [.int c, .int (nI k)] (fun _ => []) τ r σ2) (fun k _ τ => τ = (FF σ.1 q (nbF (σ.2.1 0) q k), σ.2.1, 0, σ.2.2.2)) (e - q) (by
    rintro k ⟨⟩ τ hk rfl
    refine ⟨(), _, rfl, fun r σ2 hh => ?_⟩
    have hL := hall (q + k) (by omega) (by omega)
    have hc : ch (σ.2.1 0) len (q + k) = σ.2.1 0 (q + k) := if_pos (ch_lt (f := isD) (by decide) hL)
    have th := hereT8 d (FF σ.1 q (nbF (σ.2.1 0) q k), σ.2.1, 0, σ.2.2.2) (okT_F (w := 0) (x := nbF (σ.2.1 0) q k) h) (k := k) (by omega)
    refine g8_token_144 ⟨_, _, th, fun y => absurd y (of_decide_eq_true hL), fun _ => ⟨fun y => ?_, fun y => ⟨_, _, th, ?_⟩⟩⟩
    · rw [nbF_s, if_neg (fun z => absurd y (nI_ge (b := 4) z (by decide)))] at hh
      rw [nI_1]; exact hh
    · have z : k < 4 := by
        by_cases z : k < 4
        · exact z
        · exact absurd (nI_le (a := 4) (by omega) (by omega)) y
      rw [nbF_s, if_pos z] at hh
      rw [nI_1, hc, FF_u]
      exact hh) 0 () (FF σ.1 q 0, σ.2.1, 0, σ.2.2.2) (Nat.zero_le _) rfl
  subst a1
  have th := hereT8 d (FF σ.1 q (nbF (σ.2.1 0) q (e - q)), σ.2.1, 0, σ.2.2.2) (okT_F (w := 0) (x := nbF (σ.2.1 0) q (e - q)) h) (k := e - q) (by omega)
  rw [show q + (e - q) = e by omega] at th
  have h4 : (FF σ.1 q (nbF (σ.2.1 0) q (e - q))) 4 + nI (e - q) = nI e := by
    show σ.1 4 + nI (e - q) = nI e
    rw [h.2.2.1, nI_add, show q + (e - q) = e by omega]
  refine a3 _ _ (g8_token_144 ⟨_, _, th, fun _ => ⟨fun y => ?_, fun y => ⟨_, _, th, ?_⟩⟩, fun y => absurd (of_decide_eq_false hend) (not_not_intro y)⟩)
  · rw [nI_lt4 (by omega)] at y
    rw [if_pos (Or.inl y), if_pos (Or.inl y)]
    refine g8_token_203_1 ⟨fun _ => ⟨rfl, ?_⟩, fun z => absurd rfl z⟩
    show _ = (upd (FF σ.1 q (nbF (σ.2.1 0) q (e - q))) 6 3, σ.2.1, 0, σ.2.2.2)
    rw [endB σ.1 q (nbF (σ.2.1 0) q (e - q)) 3 0 h.2.2.1]
  · rw [nI_lt4 (by omega)] at y
    cases hL : isL (ch (σ.2.1 0) len e)
    · have z := of_decide_eq_false hL
      have z1 : s8_isLetter (ch (σ.2.1 0) len e) = 0 := Classical.not_not.mp z
      have hz : ¬ (4 < e - q ∨ false = true) := fun u => u.elim y (by decide)
      rw [if_neg hz, if_neg hz, if_pos z1]
      refine ⟨fun u => absurd u (by decide), fun _ => ⟨rfl, ?_⟩⟩
      show _ = (upd (upd (FF σ.1 q (nbF (σ.2.1 0) q (e - q))) 6 2) 4 ((FF σ.1 q (nbF (σ.2.1 0) q (e - q))) 4 + nI (e - q)), σ.2.1, 0, σ.2.2.2)
      rw [h4, endA σ.1 q e (nbF (σ.2.1 0) q (e - q)) 2 0]
    · have z := of_decide_eq_true hL
      rw [if_pos (Or.inr rfl), if_pos (Or.inr rfl), if_neg z]
      refine ⟨fun _ => ⟨rfl, ?_⟩, fun u => absurd rfl u⟩
      show _ = (upd (FF σ.1 q (nbF (σ.2.1 0) q (e - q))) 6 3, σ.2.1, 0, σ.2.2.2)
      rw [endB σ.1 q (nbF (σ.2.1 0) q (e - q)) 3 0 h.2.2.1]
theorem sign3 {c : Int32} (h : ¬ s8_isSign c = 0) : ¬ c = 3 := fun e => h (by rw [e]; decide)
/-- the token, no blank ahead of it -/
theorem tokenN (d : Nat) {len : Nat} (σ : S8) (p : Nat) (h : okT σ len p) (hs : isSp (ch (σ.2.1 0) len p) = false) : Rn8 mX8_token (d + 2) 0 [U_, U_] (fun _ => []) σ none (tokS σ len p) := by
  have hn : ¬ ch (σ.2.1 0) len p = 32 ∧ ¬ ch (σ.2.1 0) len p = 10 := by
    unfold isSp at hs
    simpa using hs
  have th : Tw8 mX8_here (d + 1) [.int 0] σ (some (.int (ch (σ.2.1 0) len p))) σ := hereT8 d σ h (k := 0) (by decide)
  have th2 : Tw8 mX8_here (d + 1) [.int 0] (upd σ.1 7 (σ.1 4), σ.2.1, σ.2.2.1, σ.2.2.2) (some (.int (ch (σ.2.1 0) len p))) (upd σ.1 7 (σ.1 4), σ.2.1, σ.2.2.1, σ.2.2.2) := hereT8 d (upd σ.1 7 (σ.1 4), σ.2.1, σ.2.2.1, σ.2.2.2) (len := len) (p := p) h (k := 0) (by decide)
  refine g8_token_0 ⟨_, _, th, fun y => absurd y hn.1, fun _ => ⟨_, _, th, fun _ => ⟨_, _, th2, ?_⟩, fun y => absurd y hn.2⟩⟩
  unfold tokS
  rw [runTo_n hs]
  have e0 : upd (upd σ.1 7 (σ.1 4)) 8 0 = FF σ.1 p 0 := by rw [h.2.2.1]; exact FF_i σ.1 p
  have e4 : ∀ x, (upd σ.1 7 x) 4 = nI p := fun x => by rw [upd_n (by decide)]; exact h.2.2.1
  show _ ∧ _
  refine ⟨fun y => ⟨fun z => ⟨fun u => ⟨fun v => ⟨rfl, ?_⟩, fun v => ⟨rfl, ?_⟩⟩, fun u => ?_⟩, fun z => ?_⟩, fun y => ⟨fun u => absurd u (by decide), fun _ => ⟨rfl, ?_⟩⟩⟩
  · have zL : isL (ch (σ.2.1 0) len p) = false := decide_eq_false (not_not_intro z)
    have zD : isD (ch (σ.2.1 0) len p) = false := decide_eq_false (not_not_intro u)
    have zS : s8_isSign (ch (σ.2.1 0) len p) = 0 := by
      by_cases q : s8_isSign (ch (σ.2.1 0) len p) = 0
      · exact q
      · rw [if_neg q] at v
        exact absurd v (sign3 q)
    unfold tokE
    rw [if_neg (not_not_intro y), zL, zD, if_pos zS, if_pos zS]
    show _ = (upd (upd (upd σ.1 7 (σ.1 4)) 8 0) 6 3, σ.2.1, 0, σ.2.2.2)
    rw [e0, endB σ.1 p 0 3 0 h.2.2.1]
    rfl
  · have zL : isL (ch (σ.2.1 0) len p) = false := decide_eq_false (not_not_intro z)
    have zD : isD (ch (σ.2.1 0) len p) = false := decide_eq_false (not_not_intro u)
    have zS : ¬ s8_isSign (ch (σ.2.1 0) len p) = 0 := by
      intro q
      rw [if_pos q] at v
      exact absurd rfl v
    unfold tokE
    rw [if_neg (not_not_intro y), zL, zD, if_neg zS, if_neg zS]
    show _ = (upd (upd (upd (upd σ.1 7 (σ.1 4)) 8 0) 6 (ch (σ.2.1 0) len p)) 4 ((upd σ.1 7 (σ.1 4)) 4 + 1), σ.2.1, 0, σ.2.2.2)
    rw [e0, e4, nI_1, endA σ.1 p (p + 1) 0 (ch (σ.2.1 0) len p) 0]
    rfl
  · have zL : isL (ch (σ.2.1 0) len p) = false := decide_eq_false (not_not_intro z)
    have zD : isD (ch (σ.2.1 0) len p) = true := decide_eq_true u
    unfold tokE
    rw [if_neg (not_not_intro y), zL, zD]
    show Rn8 mX8_token (d + 2) 144 [.int (ch (σ.2.1 0) len p), .int 0] (fun _ => []) (upd (upd σ.1 7 (σ.1 4)) 8 0, σ.2.1, 0, σ.2.2.2) none _
    rw [e0]
    exact tokenD d σ (ch (σ.2.1 0) len p) h
  · have zL : isL (ch (σ.2.1 0) len p) = true := decide_eq_true z
    unfold tokE
    rw [if_neg (not_not_intro y), zL]
    show Rn8 mX8_token (d + 2) 78 [.int (ch (σ.2.1 0) len p), .int 0] (fun _ => []) (upd (upd σ.1 7 (σ.1 4)) 8 0, σ.2.1, 0, σ.2.2.2) none _
    rw [e0]
    exact tokenL d σ (ch (σ.2.1 0) len p) h
  · unfold tokE
    rw [if_pos y]
    show _ = (upd (upd (upd (upd σ.1 7 (σ.1 4)) 8 0) 6 0) 4 ((upd σ.1 7 (σ.1 4)) 4 + 0), σ.2.1, 0, σ.2.2.2)
    rw [e0, e4, show nI p + 0 = nI p from nI_add p 0, endA σ.1 p p 0 0 0]
theorem tokenR (d : Nat) {len : Nat} : ∀ (n : Nat) (σ : S8) (p : Nat), len - p ≤ n → okT σ len p → Rn8 mX8_token (d + 2) 0 [U_, U_] (fun _ => []) σ none (tokS σ len p) := by
  intro n
  induction n with
  | zero =>
    intro σ p hn h
    cases hs : isSp (ch (σ.2.1 0) len p)
    · exact tokenN d σ p h hs
    · exact absurd (ch_lt (f := isSp) (by decide) hs) (by omega)
  | succ n ih =>
    intro σ p hn h
    cases hs : isSp (ch (σ.2.1 0) len p)
    · exact tokenN d σ p h hs
    · have hl := ch_lt (f := isSp) (by decide) hs
      have h5 := h.1
      have h16 := h.2.1
      have hk : okT (upd σ.1 4 (σ.1 4 + 1), σ.2.1, σ.2.2.1, σ.2.2.2) len (p + 1) := ⟨by
        show upd σ.1 4 (σ.1 4 + 1) 5 = _
        rw [upd_n (by decide)]; exact h5, h16, by
        show upd σ.1 4 (σ.1 4 + 1) 4 = _
        rw [upd_s, h.2.2.1, nI_1], hl⟩
      have hr := ih _ (p + 1) (by omega) hk
      rw [tokS_4 σ (σ.1 4 + 1) len (p + 1) p (runTo_s (f := isSp) (by decide) hs).symm] at hr
      have th : Tw8 mX8_here (d + 1) [.int 0] σ (some (.int (ch (σ.2.1 0) len p))) σ := hereT8 d σ h (k := 0) (by decide)
      refine g8_token_0 ⟨_, _, th, fun y => hr, fun y => ⟨_, _, th, fun z => ?_, fun z => hr⟩⟩
      unfold isSp at hs
      rw [decide_eq_false y, decide_eq_false z] at hs
      exact absurd hs (by decide)
theorem tokenT8 (d : Nat) (σ : S8) {len p : Nat} (h : okT σ len p) : Tw8 mX8_token (d + 2) [] σ none (tokS σ len p) :=
  Tw8.ofR [U_, U_] (by decide) (fun _ => rfl) (fun _ _ => Nat.le_of_ble_eq_true rfl) (tokenR d (len - p) σ p (Nat.le_refl _) h)
