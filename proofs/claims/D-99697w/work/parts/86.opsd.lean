/-! the component: what it answers (2) -/
set_option maxRecDepth 100000
section C2
variable {ρ : Rho} {E : Hp → Prop} {A : Nat → Nat} {σ : Sg}
theorem bi_ne {b : Bool} (h : ¬ bi b = 0) : b = true := by
  cases b with
  | false => exact absurd rfl h
  | true => rfl
theorem set_t {f : Nat → Bool} {k : Nat} (h : f k = true) : set8 f k ||| ((1 : Int32) <<< (nI k &&& 31)) = set8 f (k + 1) := by
  rw [← set8_s, h]
  rfl
theorem set_f {f : Nat → Bool} {k : Nat} (h : f k = false) : set8 f k = set8 f (k + 1) := by
  rw [← set8_s, h, or_f]
theorem cnt_t {f : Nat → Bool} {k : Nat} (h : f k = true) : cnt8 f k + 1 = cnt8 f (k + 1) := by
  rw [← cnt8_s, h]
  rfl
theorem cnt_f {f : Nat → Bool} {k : Nat} (h : f k = false) : cnt8 f k = cnt8 f (k + 1) := by
  rw [← cnt8_s, h]
  show _ = _ + (0 : Int32)
  rw [Int32.add_zero]
theorem fittedCM (d : Nat) (hT : tlV ρ) (hN : okNow ρ (stV σ 1)) : ∃ σ1, Tv ρ E A mX0_fitted (d + 304) 0 0 [.ref (A 0)] σ (some (.int (set8 (ownE (eC ρ) (stV σ 1)) (ρ.1 0)))) σ1 ∧ kc [30] σ σ1 := by
  obtain ⟨σ1, q1, q2⟩ := fittCn d (E := E) (A := A) (σ := σ) hT hN.1 hN.2.1
  exact ⟨σ1, Tv.of [.ref (A 0)] (by decide) rfl (fun _ => Nat.le_of_ble_eq_true rfl) q1.1 (gc_X0_fitted_0 ⟨_, _, q1, rfl, rfl⟩), q2⟩
theorem popC (d : Nat) {c : Nat} (hT : tlV ρ) (hc : c < ρ.1 1) (hN : okNow ρ (stV σ 1)) : ∃ σ1, Tv ρ E A mX0_popular (d + 303) 0 0 [.ref (A 0), .int (nI c)] σ (some (.int (cnt8 (fun m => fitE (eC ρ) (stV σ 1) m c) (ρ.1 0)))) σ1 ∧ kc [30] σ σ1 := by
  have h6 := hT.1
  have h6c := hT.2.1
  have q0 := isCoatC (d + 299) (E := E) (A := A) (σ := σ) (nI c) h6c
  rw [idx_nI hc (by omega)] at q0
  obtain ⟨a, τ, ⟨h1, h2⟩, h3⟩ := iterC (T := Int32) (fun k a τ r σ1 => Rv ρ E A mX0_popular (d + 303) 0 0 14 [.ref (A 0), .int (nI c), .int a, .int (nI k)] [] τ r σ1) (fun k a τ => a = cnt8 (fun m => fitE (eC ρ) (stV σ 1) m c) k ∧ kc [30] σ τ) (ρ.1 0) (by
    rintro k a τ hk ⟨rfl, q1⟩
    have ev : stV τ 1 = stV σ 1 := stV_kc q1 (by decide)
    obtain ⟨τ1, q2, q3⟩ := fitCn d (E := E) (A := A) (σ := τ) (m := k) (c := c) hT hk hc (by rw [ev]; exact hN.1)
    rw [ev] at q2
    refine ⟨_, τ1, ⟨rfl, q1.tr q3⟩, fun r σ1 h => ?_⟩
    refine gc_X0_popular_14 ⟨_, _, menC (d + 300), fun q => absurd q (nI_ge hk (by omega)), fun _ => ⟨_, _, q2, ?_⟩⟩
    rw [bi_if01, nI_1]
    exact h) 0 0 σ (Nat.zero_le _) ⟨rfl, kc.rf⟩
  subst h1
  exact ⟨τ, Tv.of [.ref (A 0), .int (nI c), U_, U_] (by decide) rfl (fun _ => Nat.le_of_ble_eq_true rfl) h2.1 (gc_X0_popular_0 ⟨_, _, q0, fun _ => h3 _ _ (gc_X0_popular_14 ⟨_, _, menC (d + 300), fun _ => ⟨rfl, rfl⟩, fun q => absurd (nI_le (Nat.le_refl _) (by omega)) q⟩), fun q => absurd q (by decide)⟩), h2⟩
theorem popularCM (d : Nat) (c : Int32) (hT : tlV ρ) (hN : okNow ρ (stV σ 1)) : ∃ σ1, Tv ρ E A mX0_popular (d + 303) 0 0 [.ref (A 0), .int c] σ (some (.int (if idx c (ρ.1 1) then cnt8 (fun m => fitE (eC ρ) (stV σ 1) m c.toNatClampNeg) (ρ.1 0) else -1))) σ1 ∧ kc [30] σ σ1 := by
  have h6c := hT.2.1
  have q0 := isCoatC (d + 299) (E := E) (A := A) (σ := σ) c h6c
  cases h1 : idx c (ρ.1 1) with
  | false =>
    rw [h1] at q0
    exact ⟨σ, Tv.of [.ref (A 0), .int c, U_, U_] (by decide) rfl (fun _ => Nat.le_of_ble_eq_true rfl) rfl (gc_X0_popular_0 ⟨_, _, q0, fun q => absurd rfl q, fun _ => ⟨rfl, rfl⟩⟩), kc.rf⟩
  | true =>
    obtain ⟨i, hi, rfl⟩ := idx_of h1 (by omega)
    rw [cl (by omega)]
    exact popC d hT hi hN
theorem ragsCM (d : Nat) (hT : tlV ρ) (hN : okNow ρ (stV σ 1)) : ∃ σ1, Tv ρ E A mX0_rags (d + 304) 0 0 [.ref (A 0)] σ (some (.int (set8 (fun c => decide (cnt8 (fun m => fitE (eC ρ) (stV σ 1) m c) (ρ.1 0) = 0)) (ρ.1 1)))) σ1 ∧ kc [30] σ σ1 := by
  have h6c := hT.2.1
  obtain ⟨a, τ, ⟨h1, h2⟩, h3⟩ := iterC (T := Int32) (fun k a τ r σ1 => Rv ρ E A mX0_rags (d + 304) 0 0 4 [.ref (A 0), .int a, .int (nI k)] [] τ r σ1) (fun k a τ => a = set8 (fun c => decide (cnt8 (fun m => fitE (eC ρ) (stV σ 1) m c) (ρ.1 0) = 0)) k ∧ kc [30] σ τ) (ρ.1 1) (by
    rintro k a τ hk ⟨rfl, q1⟩
    have ev : stV τ 1 = stV σ 1 := stV_kc q1 (by decide)
    obtain ⟨τ1, q2, q3⟩ := popC d (E := E) (A := A) (σ := τ) hT hk (by rw [ev]; exact hN)
    rw [ev] at q2
    refine ⟨_, τ1, ⟨rfl, q1.tr q3⟩, fun r σ1 h => ?_⟩
    refine gc_X0_rags_4 ⟨_, _, coatsC (d + 301), fun q => absurd q (nI_ge hk (by omega)), fun _ => ⟨_, _, q2, fun hb => ?_, fun hb => ?_⟩⟩
    · rw [nI_1]
      rw [← set_f (decide_eq_false hb)] at h
      exact h
    · rw [nI_1]
      rw [← set_t (decide_eq_true hb)] at h
      exact h) 0 0 σ (Nat.zero_le _) ⟨rfl, kc.rf⟩
  subst h1
  exact ⟨τ, Tv.of [.ref (A 0), U_, U_] (by decide) rfl (fun _ => Nat.le_of_ble_eq_true rfl) h2.1 (gc_X0_rags_0 (h3 _ _ (gc_X0_rags_4 ⟨_, _, coatsC (d + 301), fun _ => ⟨rfl, rfl⟩, fun q => absurd (nI_le (Nat.le_refl _) (by omega)) q⟩))), h2⟩
theorem nakedCM (d : Nat) (hT : tlV ρ) (hN : okNow ρ (stV σ 1)) : ∃ σ1, Tv ρ E A mX0_naked (d + 304) 0 0 [.ref (A 0)] σ (some (.int (set8 (fun m => decide (set8 (fitE (eC ρ) (stV σ 1) m) (ρ.1 1) = 0)) (ρ.1 0)))) σ1 ∧ kc [30] σ σ1 := by
  have h6 := hT.1
  obtain ⟨a, τ, ⟨h1, h2⟩, h3⟩ := iterC (T := Int32) (fun k a τ r σ1 => Rv ρ E A mX0_naked (d + 304) 0 0 4 [.ref (A 0), .int a, .int (nI k)] [] τ r σ1) (fun k a τ => a = set8 (fun m => decide (set8 (fitE (eC ρ) (stV σ 1) m) (ρ.1 1) = 0)) k ∧ kc [30] σ τ) (ρ.1 0) (by
    rintro k a τ hk ⟨rfl, q1⟩
    have ev : stV τ 1 = stV σ 1 := stV_kc q1 (by decide)
    obtain ⟨τ1, q2, q3⟩ := fittingC d (E := E) (A := A) (σ := τ) hT hk (by rw [ev]; exact hN)
    rw [ev] at q2
    refine ⟨_, τ1, ⟨rfl, q1.tr q3⟩, fun r σ1 h => ?_⟩
    refine gc_X0_naked_4 ⟨_, _, menC (d + 301), fun q => absurd q (nI_ge hk (by omega)), fun _ => ⟨_, _, q2, fun hb => ?_, fun hb => ?_⟩⟩
    · rw [nI_1]
      rw [← set_f (decide_eq_false hb)] at h
      exact h
    · rw [nI_1]
      rw [← set_t (decide_eq_true hb)] at h
      exact h) 0 0 σ (Nat.zero_le _) ⟨rfl, kc.rf⟩
  subst h1
  exact ⟨τ, Tv.of [.ref (A 0), U_, U_] (by decide) rfl (fun _ => Nat.le_of_ble_eq_true rfl) h2.1 (gc_X0_naked_0 (h3 _ _ (gc_X0_naked_4 ⟨_, _, menC (d + 301), fun _ => ⟨rfl, rfl⟩, fun q => absurd (nI_le (Nat.le_refl _) (by omega)) q⟩))), h2⟩
/-- how ill it sits is never below 0 -/
theorem within_nn (x : Int32) : 0 ≤ s8_within x 999 := by
  unfold s8_within
  split
  · split
    · assumption
    · decide
  · decide
theorem mis_nn (e : E8) (v : Nat → Int32) (m c : Nat) : 0 ≤ misE e v m c := by
  unfold misE mis8
  split
  · exact within_nn _
  · exact within_nn _
theorem ownI_nn {e : E8} {v : Nat → Int32} {m : Nat} : 0 ≤ ownI e v m ↔ ¬ v (6 + m) < 0 := by
  unfold ownI
  by_cases h : v (6 + m) < 0
  · rw [if_pos h]
    exact ⟨fun q => absurd q (by decide), fun q => absurd h q⟩
  · rw [if_neg h]
    exact ⟨fun _ => h, fun _ => mis_nn _ _ _ _⟩
theorem misOwn (d : Nat) {τ : Sg} {m c : Nat} (hT : tlV ρ) (hm : m < ρ.1 0) (hc : c < ρ.1 1) (hN : okNow ρ (stV τ 1)) : ∃ σ1, Tv ρ E A mX1_misfit (d + 301) 0 0 [.ref (ρ.1 2), .ref (A 1), .int (nI m), .int (nI c)] τ (some (.int (misE (eC ρ) (stV τ 1) m c))) σ1 ∧ kc [30] τ σ1 := by
  have h6c := hT.2.1
  obtain ⟨r1, r2, r3, r4⟩ := hN.1.2 c hc
  exact misCn d hT hm (by omega) (hN.1.1 m hm) r1 r2 r4
theorem lawCM (d : Nat) (n : Int32) (hT : tlV ρ) (hN : okNow ρ (stV σ 1)) : ∃ σ1, Tv ρ E A mX0_law (d + 302) 0 0 [.ref (A 0), .int n] σ (some (.int (if s8_isIn n 0 999 = 0 then -1 else cnt8 (fun m => decide (0 ≤ ownI (eC ρ) (stV σ 1) m ∧ ownI (eC ρ) (stV σ 1) m ≤ n)) (ρ.1 0)))) σ1 ∧ kc [30] σ σ1 := by
  have h6 := hT.1
  have h6c := hT.2.1
  by_cases h0 : s8_isIn n 0 999 = 0
  · rw [if_pos h0]
    exact ⟨σ, Tv.of [.ref (A 0), .int n, U_, U_] (by decide) rfl (fun _ => Nat.le_of_ble_eq_true rfl) rfl (gc_X0_law_0 ⟨fun q => absurd h0 q, fun _ => ⟨rfl, rfl⟩⟩), kc.rf⟩
  rw [if_neg h0]
  obtain ⟨a, τ, ⟨h1, h2⟩, h3⟩ := iterC (T := Int32) (fun k a τ r σ1 => Rv ρ E A mX0_law (d + 302) 0 0 17 [.ref (A 0), .int n, .int a, .int (nI k)] [] τ r σ1) (fun k a τ => a = cnt8 (fun m => decide (0 ≤ ownI (eC ρ) (stV σ 1) m ∧ ownI (eC ρ) (stV σ 1) m ≤ n)) k ∧ kc [30] σ τ) (ρ.1 0) (by
    rintro k a τ hk ⟨rfl, q1⟩
    have ev : stV τ 1 = stV σ 1 := stV_kc q1 (by decide)
    have ck : (nI k).toNatClampNeg = k := cl (by omega)
    have b6 : vp_in (nI k) 6 := vin (by omega) (by decide)
    rcases hN.2.1 k hk with hw | ⟨c, hc, hw⟩
    · refine ⟨_, τ, ⟨rfl, q1⟩, fun r σ1 h => ?_⟩
      refine gc_X0_law_17 ⟨_, _, menC (d + 299), fun q => absurd q (nI_ge hk (by omega)), fun _ => ⟨b6, fun _ => ?_, fun q => absurd (by rw [ck, rdn1 (by omega), ev, hw]; decide) q⟩⟩
      have hf : (decide (0 ≤ ownI (eC ρ) (stV σ 1) k ∧ ownI (eC ρ) (stV σ 1) k ≤ n)) = false := decide_eq_false (fun q => absurd (ownI_nn.mp q.1) (by rw [hw]; decide))
      rw [nI_1]
      rw [← cnt_f (f := fun m => decide (0 ≤ ownI (eC ρ) (stV σ 1) m ∧ ownI (eC ρ) (stV σ 1) m ≤ n)) hf] at h
      exact h
    · obtain ⟨τ1, q2, q3⟩ := misOwn d (E := E) (A := A) (τ := τ) hT hk hc (by rw [ev]; exact hN)
      rw [ev] at q2
      have ew : τ.1 3 k = nI c := by rw [rdn1 (by omega), ev, hw]
      have eo : ownI (eC ρ) (stV σ 1) k = misE (eC ρ) (stV σ 1) k c := by
        unfold ownI
        rw [hw, if_neg (nI_nneg (by omega)), cl (by omega)]
      refine ⟨_, τ1, ⟨rfl, q1.tr q3⟩, fun r σ1 h => ?_⟩
      refine gc_X0_law_17 ⟨_, _, menC (d + 299), fun q => absurd q (nI_ge hk (by omega)), fun _ => ⟨b6, fun q => absurd (by rw [ck, ew] at q; exact q) (nI_nneg (by omega)), fun _ => ⟨_, _, by rw [ck, ew]; exact q2, fun hb => ?_, fun hb => ?_⟩⟩⟩
      · have hf : (decide (0 ≤ ownI (eC ρ) (stV σ 1) k ∧ ownI (eC ρ) (stV σ 1) k ≤ n)) = false := decide_eq_false (fun q => i32_nlt.mpr q.2 (by rw [eo]; exact hb))
        rw [nI_1]
        rw [← cnt_f (f := fun m => decide (0 ≤ ownI (eC ρ) (stV σ 1) m ∧ ownI (eC ρ) (stV σ 1) m ≤ n)) hf] at h
        exact h
      · have hf : (decide (0 ≤ ownI (eC ρ) (stV σ 1) k ∧ ownI (eC ρ) (stV σ 1) k ≤ n)) = true := decide_eq_true ⟨by rw [eo]; exact mis_nn _ _ _ _, by rw [eo]; exact i32_nlt.mp hb⟩
        rw [nI_1]
        rw [← cnt_t (f := fun m => decide (0 ≤ ownI (eC ρ) (stV σ 1) m ∧ ownI (eC ρ) (stV σ 1) m ≤ n)) hf] at h
        exact h) 0 0 σ (Nat.zero_le _) ⟨rfl, kc.rf⟩
  subst h1
  exact ⟨τ, Tv.of [.ref (A 0), .int n, U_, U_] (by decide) rfl (fun _ => Nat.le_of_ble_eq_true rfl) h2.1 (gc_X0_law_0 ⟨fun _ => h3 _ _ (gc_X0_law_17 ⟨_, _, menC (d + 299), fun _ => ⟨rfl, rfl⟩, fun q => absurd (nI_le (Nat.le_refl _) (by omega)) q⟩), fun q => absurd q h0⟩), h2⟩
theorem ease_nn {e : E8} {v : Nat → Int32} : ∀ n, 0 ≤ easeE e v n := by
  intro n
  induction n with
  | zero => show (0 : Int32) ≤ 0; decide
  | succ n ih =>
    show 0 ≤ s8_greater (easeE e v n) (ownI e v n)
    unfold s8_greater
    split
    · rename_i h
      rw [Int32.le_iff_toInt_le] at ih h ⊢
      omega
    · exact ih
theorem easeCM (d : Nat) (hT : tlV ρ) (hN : okNow ρ (stV σ 1)) : ∃ σ1, Tv ρ E A mX0_ease (d + 302) 0 0 [.ref (A 0)] σ (some (.int (easeE (eC ρ) (stV σ 1) (ρ.1 0)))) σ1 ∧ kc [30] σ σ1 := by
  have h6 := hT.1
  have h6c := hT.2.1
  obtain ⟨a, τ, ⟨h1, h2⟩, h3⟩ := iterC (T := Int32) (fun k a τ r σ1 => Rv ρ E A mX0_ease (d + 302) 0 0 4 [.ref (A 0), .int a, .int (nI k)] [] τ r σ1) (fun k a τ => a = easeE (eC ρ) (stV σ 1) k ∧ kc [30] σ τ) (ρ.1 0) (by
    rintro k a τ hk ⟨rfl, q1⟩
    have ev : stV τ 1 = stV σ 1 := stV_kc q1 (by decide)
    have ck : (nI k).toNatClampNeg = k := cl (by omega)
    have b6 : vp_in (nI k) 6 := vin (by omega) (by decide)
    have es : easeE (eC ρ) (stV σ 1) (k + 1) = s8_greater (easeE (eC ρ) (stV σ 1) k) (ownI (eC ρ) (stV σ 1) k) := rfl
    rcases hN.2.1 k hk with hw | ⟨c, hc, hw⟩
    · refine ⟨_, τ, ⟨rfl, q1⟩, fun r σ1 h => ?_⟩
      refine gc_X0_ease_4 ⟨_, _, menC (d + 299), fun q => absurd q (nI_ge hk (by omega)), fun _ => ⟨b6, fun _ => ?_, fun q => absurd (by rw [ck, rdn1 (by omega), ev, hw]; decide) q⟩⟩
      have eo : ownI (eC ρ) (stV σ 1) k = -1 := by
        unfold ownI
        rw [hw, if_pos (by decide)]
      rw [nI_1]
      rw [es, eo] at h
      have e9 : s8_greater (easeE (eC ρ) (stV σ 1) k) (-1) = easeE (eC ρ) (stV σ 1) k := by
        unfold s8_greater
        rw [if_neg]
        intro q
        have := ease_nn (e := eC ρ) (v := stV σ 1) k
        rw [Int32.le_iff_toInt_le] at q this
        have e1 : (-1 : Int32).toInt = -1 := rfl
        have e0 : (0 : Int32).toInt = 0 := rfl
        omega
      rw [e9] at h
      exact h
    · obtain ⟨τ1, q2, q3⟩ := misOwn d (E := E) (A := A) (τ := τ) hT hk hc (by rw [ev]; exact hN)
      rw [ev] at q2
      have ew : τ.1 3 k = nI c := by rw [rdn1 (by omega), ev, hw]
      have eo : ownI (eC ρ) (stV σ 1) k = misE (eC ρ) (stV σ 1) k c := by
        unfold ownI
        rw [hw, if_neg (nI_nneg (by omega)), cl (by omega)]
      refine ⟨_, τ1, ⟨rfl, q1.tr q3⟩, fun r σ1 h => ?_⟩
      refine gc_X0_ease_4 ⟨_, _, menC (d + 299), fun q => absurd q (nI_ge hk (by omega)), fun _ => ⟨b6, fun q => absurd (by rw [ck, ew] at q; exact q) (nI_nneg (by omega)), fun _ => ⟨_, _, by rw [ck, ew]; exact q2, ?_⟩⟩⟩
      rw [nI_1, max_g, ← eo, ← es]
      exact h) 0 0 σ (Nat.zero_le _) ⟨rfl, kc.rf⟩
  subst h1
  exact ⟨τ, Tv.of [.ref (A 0), U_, U_] (by decide) rfl (fun _ => Nat.le_of_ble_eq_true rfl) h2.1 (gc_X0_ease_0 (h3 _ _ (gc_X0_ease_4 ⟨_, _, menC (d + 299), fun _ => ⟨rfl, rfl⟩, fun q => absurd (nI_le (Nat.le_refl _) (by omega)) q⟩))), h2⟩
theorem has_c (s : Int32) (k : Nat) : s0_has s (nI k) = bi (hasB s k) := by
  unfold s0_has hasB
  rw [bi_if]
/-- how broad some are: those of the set that wear -/
def brE (v : Nat → Int32) (set : Int32) : Nat → Int32 := acc8 (fun m a => a + (if hasB set m && decide (¬ v (6 + m) < 0) then v (18 + (v (6 + m)).toNatClampNeg) else 0)) 0
theorem brdC (d : Nat) (set : Int32) (h6 : ρ.1 0 ≤ 6) (h6c : ρ.1 1 ≤ 6) (hW : okW (stV σ 1) (ρ.1 0) (ρ.1 1)) : Tv ρ E A mX0_breadthOf (d + 3) 0 0 [.ref (A 0), .int set] σ (some (.int (brE (stV σ 1) set (ρ.1 0)))) σ := by
  obtain ⟨a, τ, ⟨h1, h2⟩, h3⟩ := iterC (T := Int32) (fun k a τ r σ1 => Rv ρ E A mX0_breadthOf (d + 3) 0 0 4 [.ref (A 0), .int set, .int a, .int (nI k)] [] τ r σ1) (fun k a τ => a = brE (stV σ 1) set k ∧ τ = σ) (ρ.1 0) (by
    rintro k a τ hk ⟨rfl, rfl⟩
    have ck : (nI k).toNatClampNeg = k := cl (by omega)
    have b6 : vp_in (nI k) 6 := vin (by omega) (by decide)
    have es : brE (stV τ 1) set (k + 1) = brE (stV τ 1) set k + (if hasB set k && decide (¬ stV τ 1 (6 + k) < 0) then stV τ 1 (18 + (stV τ 1 (6 + k)).toNatClampNeg) else 0) := rfl
    refine ⟨_, τ, ⟨rfl, rfl⟩, fun r σ1 h => ?_⟩
    rw [es] at h
    refine gc_X0_breadthOf_4 ⟨_, _, menC d, fun q => absurd q (nI_ge hk (by omega)), fun _ => ⟨fun hb => ?_, fun hb => ⟨b6, fun hb2 => ?_, fun hb2 => ?_⟩⟩⟩
    · rw [has_c] at hb
      rw [(bi_0 _).mp hb] at h
      rw [nI_1]
      exact h
    · rw [ck, rdn1 (by omega)] at hb2
      rw [decide_eq_false (fun q => q hb2), Bool.and_false] at h
      rw [nI_1]
      exact h
    · rw [has_c] at hb
      rw [ck, rdn1 (by omega)] at hb2
      rw [bi_ne hb, decide_eq_true hb2] at h
      have hc : ∃ c, c < ρ.1 1 ∧ stV τ 1 (6 + k) = nI c := by
        rcases hW k hk with q | q
        · rw [q] at hb2; exact absurd (by decide) hb2
        · exact q
      obtain ⟨c, hc, ec⟩ := hc
      rw [ck, rdn1 (by omega), ec]
      rw [ec] at h
      refine ⟨vin (by omega) (by decide), ?_⟩
      rw [cl (by omega), rdn3 (by omega), nI_1]
      rw [cl (by omega)] at h
      exact h) 0 0 σ (Nat.zero_le _) ⟨rfl, rfl⟩
  subst h1; subst h2
  exact Tv.of [.ref (A 0), .int set, U_, U_] (by decide) rfl (fun _ => Nat.le_of_ble_eq_true rfl) rfl (gc_X0_breadthOf_0 (h3 _ _ (gc_X0_breadthOf_4 ⟨_, _, menC d, fun _ => ⟨rfl, rfl⟩, fun q => absurd (nI_le (Nat.le_refl _) (by omega)) q⟩)))
theorem breadthCM (d : Nat) (hT : tlV ρ) (hN : okNow ρ (stV σ 1)) : Tv ρ E A mX0_breadth (d + 4) 0 0 [.ref (A 0)] σ (some (.int (brE (stV σ 1) (wearers8 (stV σ 1) (ρ.1 0)) (ρ.1 0)))) σ :=
  Tv.of [.ref (A 0)] (by decide) rfl (fun _ => Nat.le_of_ble_eq_true rfl) rfl (gc_X0_breadth_0 ⟨_, _, dresCn (d + 2) hT.1 hN.2.2.1, _, _, brdC d _ hT.1 hT.2.1 hN.2.1, rfl, rfl⟩)
end C2
