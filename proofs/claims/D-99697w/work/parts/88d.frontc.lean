/-! the component: a front, wings -/
set_option maxRecDepth 100000
section C6
variable {ρ : Rho} {E : Hp → Prop} {A : Nat → Nat} {σ : Sg}
theorem br_wide {v : Nat → Int32} {set : Int32} : ∀ {n : Nat}, (∀ m, m < n → hasB set m = true → ¬ v (6 + m) < 0) → brE v set n = wideE v set n := by
  intro n
  induction n with
  | zero => intro _; rfl
  | succ n ih =>
    intro h
    have e1 : brE v set (n + 1) = brE v set n + (if hasB set n && decide (¬ v (6 + n) < 0) then v (18 + (v (6 + n)).toNatClampNeg) else 0) := rfl
    have e2 : wideE v set (n + 1) = wideE v set n + (if hasB set n then v (18 + (v (6 + n)).toNatClampNeg) else 0) := rfl
    rw [e1, e2, ih (fun m hm => h m (by omega))]
    cases hb : hasB set n with
    | false => rfl
    | true => rw [decide_eq_true (h n (by omega) hb)]; rfl
/-- a set of wearers -/
theorem br_sub {v : Nat → Int32} {nm nc k : Nat} (h6 : nm ≤ 6) (hW : okW v nm nc) (hk : k < 64) (hs : (nI k &&& (wearers8 v nm ^^^ (-1))) = 0) : brE v (nI k) nm = wideE v (nI k) nm := by
  obtain ⟨s, hs64, es⟩ := set8_n (fun k => decide (0 ≤ v (6 + k))) h6
  have es' : wearers8 v nm = nI s := es
  refine br_wide (fun m hm hb => ?_)
  have hw : hasB (wearers8 v nm) m = true := by
    rw [es'] at hs ⊢
    exact sub64 ⟨k, hk⟩ ⟨s, hs64⟩ hs ⟨m, by omega⟩ hb
  unfold wearers8 at hw
  rw [hasB_set8 _ h6 (by omega)] at hw
  simp at hw
  exact Int32.not_lt.mpr hw.2
theorem wearers_n (v : Nat → Int32) {nm : Nat} (h6 : nm ≤ 6) : ∃ s, s < 64 ∧ wearers8 v nm = nI s := set8_n _ h6
theorem self64 : ∀ s : Fin 64, (nI s.val &&& (nI s.val ^^^ (-1))) = 0 := by decide +kernel
theorem doesF (d : Nat) {k : Nat} (hT : tlV ρ) (hN : okNow ρ (stV σ 1)) : Tv ρ E A mX5_does (d + 4) 0 0 [.ref (A 21), .int (nI k)] σ (some (.int (if brE (stV σ 1) (nI k) (ρ.1 0) < σ.1 21 2 then 0 else 1))) σ :=
  Tv.of [.ref (A 21), .int (nI k)] (by decide) rfl (fun _ => Nat.le_of_ble_eq_true rfl) rfl (gc_X5_does_0 ⟨_, _, brdC d (nI k) hT.1 hT.2.1 hN.2.1, rfl, rfl⟩)
theorem costF (d : Nat) (s : Int32) : Tv ρ E A mX5_cost (d + 2) 0 0 [.ref (A 21), .int s] σ (some (.int (sj_bitCount s))) σ :=
  Tv.of [.ref (A 21), .int s] (by decide) rfl (fun _ => Nat.le_of_ble_eq_true rfl) rfl (gc_X5_cost_0 ⟨rfl, rfl⟩)
theorem front_lt {v : Nat → Int32} {nm : Nat} {may n : Int32} : ∀ k, frontE v nm may n k = -1 ∨ ∃ b, b < k ∧ frontE v nm may n k = nI b := by
  intro k
  induction k with
  | zero => exact Or.inl rfl
  | succ k ih =>
    rw [frontE_s]
    split
    · exact Or.inr ⟨k, by omega, rfl⟩
    · rcases ih with h | ⟨b, hb, h⟩
      · exact Or.inl h
      · exact Or.inr ⟨b, by omega, h⟩
theorem seekF (d : Nat) (hT : tlV ρ) (hN : okNow ρ (stV σ 1)) : ∃ σ1, Tv ρ E A mX4_seek (d + 5) 0 0 [.ref (A 21), .int (wearers8 (stV σ 1) (ρ.1 0))] σ (some (.int (frontE (stV σ 1) (ρ.1 0) (wearers8 (stV σ 1) (ρ.1 0)) (σ.1 21 2) ((wearers8 (stV σ 1) (ρ.1 0)).toNatClampNeg + 1)))) σ1 ∧ kc [21] σ σ1 := by
  have h6 := hT.1
  obtain ⟨s, hs, es⟩ := wearers_n (stV σ 1) h6
  generalize hv : stV σ 1 = v
  rw [hv] at es hN
  generalize hw : wearers8 v (ρ.1 0) = may
  rw [hw] at es
  have cs : may.toNatClampNeg = s := by rw [es]; exact cl (by omega)
  rw [cs]
  obtain ⟨_, τ, ⟨a1, a2, a4⟩, a3⟩ := iterC (T := Unit) (fun k _ τ r σ1 => Rv ρ E A mX4_seek (d + 5) 0 0 7 [.ref (A 21), .int may, .int (nI k)] [] τ r σ1) (fun k _ τ => kc [21] σ τ ∧ τ.1 21 0 = frontE v (ρ.1 0) may (σ.1 21 2) k ∧ τ.1 21 2 = σ.1 21 2) (s + 1) (by
    rintro k ⟨⟩ τ hk ⟨q1, q2, q3⟩
    have ev : stV τ 1 = v := by rw [stV_kc q1 (by decide)]; exact hv
    have hex : ¬ may < nI k := by rw [es, i32_nlt]; exact nI_le (by omega) (by omega)
    have hd := doesF d (E := E) (A := A) (σ := τ) (k := k) hT (by rw [ev]; exact hN)
    rw [ev, q3] at hd
    by_cases c1 : (nI k &&& (may ^^^ (-1))) = 0
    · have eb : brE v (nI k) (ρ.1 0) = wideE v (nI k) (ρ.1 0) := br_sub h6 hN.2.1 (by omega) (by rw [hw]; exact c1)
      rw [eb] at hd
      by_cases c2 : wideE v (nI k) (ρ.1 0) < σ.1 21 2
      · rw [if_pos c2] at hd
        refine ⟨(), τ, ⟨q1, ?_, q3⟩, fun r σ1 h => ?_⟩
        · rw [frontE_s, if_neg (fun z => z.2.1 c2), q2]
        · exact gc_X4_seekf_7 ⟨fun q => absurd q hex, fun _ => ⟨fun q => absurd c1 q, fun _ => ⟨_, _, hd, fun _ => by rw [nI_1]; exact h, fun q => absurd rfl q⟩⟩⟩
      · rw [if_neg c2] at hd
        have kup : kc [21] σ (upA τ.1 21 (upd (τ.1 21) 0 (nI k)), τ.2) := q1.up (o := 21) (by decide) _
        have k0 : (upA τ.1 21 (upd (τ.1 21) 0 (nI k))) 21 0 = nI k := by rw [upA_s, upd_s]
        have k2 : (upA τ.1 21 (upd (τ.1 21) 0 (nI k))) 21 2 = σ.1 21 2 := by rw [upA_s, upd_n (by decide), q3]
        by_cases c3 : τ.1 21 0 < 0
        · refine ⟨(), _, ⟨kup, ?_, k2⟩, fun r σ1 h => ?_⟩
          · show (upA τ.1 21 (upd (τ.1 21) 0 (nI k))) 21 0 = _
            rw [k0, frontE_s, if_pos ⟨c1, c2, Or.inl (by rw [← q2]; exact c3)⟩]
          · exact gc_X4_seekf_7 ⟨fun q => absurd q hex, fun _ => ⟨fun q => absurd c1 q, fun _ => ⟨_, _, hd, fun q => absurd q (by decide), fun _ => ⟨fun _ => by rw [nI_1]; exact h, fun q => absurd c3 q⟩⟩⟩⟩
        · obtain ⟨b, hb, eb⟩ : ∃ b, b < k ∧ frontE v (ρ.1 0) may (σ.1 21 2) k = nI b := by
            rcases front_lt (v := v) (nm := ρ.1 0) (may := may) (n := σ.1 21 2) k with z | z
            · rw [q2, z] at c3; exact absurd (by decide) c3
            · exact z
          have m1 : sj_bitCount (nI k) = s8_members (nI k) := bit_mem ⟨k, by omega⟩
          have m2 : sj_bitCount (nI b) = s8_members (nI b) := bit_mem ⟨b, by omega⟩
          have g1 := costF (d + 2) (ρ := ρ) (E := E) (A := A) (σ := τ) (nI k)
          have g2 := costF (d + 2) (ρ := ρ) (E := E) (A := A) (σ := τ) (τ.1 21 0)
          rw [m1] at g1
          rw [q2, eb, m2] at g2
          by_cases c4 : s8_members (nI k) < s8_members (nI b)
          · refine ⟨(), _, ⟨kup, ?_, k2⟩, fun r σ1 h => ?_⟩
            · show (upA τ.1 21 (upd (τ.1 21) 0 (nI k))) 21 0 = _
              rw [k0, frontE_s, if_pos ⟨c1, c2, Or.inr (by rw [eb]; exact fun z => absurd c4 (Int32.not_lt.mpr z))⟩]
            · exact gc_X4_seekf_7 ⟨fun q => absurd q hex, fun _ => ⟨fun q => absurd c1 q, fun _ => ⟨_, _, hd, fun q => absurd q (by decide), fun _ => ⟨fun q => absurd q c3, fun _ => ⟨_, _, g1, _, _, by rw [q2, eb]; exact g2, fun _ => by rw [nI_1]; exact h, fun q => absurd c4 q⟩⟩⟩⟩⟩
          · refine ⟨(), τ, ⟨q1, ?_, q3⟩, fun r σ1 h => ?_⟩
            · rw [frontE_s, if_neg, q2]
              rintro ⟨_, _, z⟩
              rw [eb] at z
              rcases z with z | z
              · exact absurd z (nI_nneg (by omega))
              · exact z (Int32.not_lt.mp c4)
            · exact gc_X4_seekf_7 ⟨fun q => absurd q hex, fun _ => ⟨fun q => absurd c1 q, fun _ => ⟨_, _, hd, fun q => absurd q (by decide), fun _ => ⟨fun q => absurd q c3, fun _ => ⟨_, _, g1, _, _, by rw [q2, eb]; exact g2, fun q => absurd q c4, fun _ => by rw [nI_1]; exact h⟩⟩⟩⟩⟩
    · refine ⟨(), τ, ⟨q1, ?_, q3⟩, fun r σ1 h => ?_⟩
      · rw [frontE_s, if_neg (fun z => c1 z.1), q2]
      · exact gc_X4_seekf_7 ⟨fun q => absurd q hex, fun _ => ⟨fun _ => by rw [nI_1]; exact h, fun q => absurd q c1⟩⟩) 0 () (upA σ.1 21 (upd (σ.1 21) 0 (-1)), σ.2) (Nat.zero_le _) ⟨kc.rf.up (o := 21) (by decide) _, by show upA σ.1 21 (upd (σ.1 21) 0 (-1)) 21 0 = _; rw [upA_s, upd_s]; rfl, by show upA σ.1 21 (upd (σ.1 21) 0 (-1)) 21 2 = _; rw [upA_s, upd_n (by decide)]⟩
  refine ⟨τ, Tv.of [.ref (A 21), .int may, U_] (by decide) rfl (fun _ => Nat.le_of_ble_eq_true rfl) a1.1 (gc_X4_seekf_0 (a3 _ _ (gc_X4_seekf_7 ⟨fun _ => ⟨by rw [a2], rfl⟩, fun q => absurd (by rw [es]; exact nI_lt (by omega) (by omega)) q⟩))), a1⟩
theorem frontCM (d : Nat) (n what : Int32) (hT : tlV ρ) (hN : okNow ρ (stV σ 1)) :
    ∃ σ1, Tv ρ E A mX0_front (d + 6) 0 0 [.ref (A 0), .int n, .int what] σ (some (.int (if s8_isIn n 0 999 = 0 then -1 else if s8_isIn what 0 1 = 0 then -1 else if 0 ≤ frontE (stV σ 1) (ρ.1 0) (wearers8 (stV σ 1) (ρ.1 0)) n ((wearers8 (stV σ 1) (ρ.1 0)).toNatClampNeg + 1) then (if what = 0 then s8_members (frontE (stV σ 1) (ρ.1 0) (wearers8 (stV σ 1) (ρ.1 0)) n ((wearers8 (stV σ 1) (ρ.1 0)).toNatClampNeg + 1)) else frontE (stV σ 1) (ρ.1 0) (wearers8 (stV σ 1) (ρ.1 0)) n ((wearers8 (stV σ 1) (ρ.1 0)).toNatClampNeg + 1)) else -1))) σ1 ∧ kc [21] σ σ1 := by
  have h6 := hT.1
  have go : ∀ {r σ1}, σ1.2 = σ.2 → _ → Tv ρ E A mX0_front (d + 6) 0 0 [.ref (A 0), .int n, .int what] σ r σ1 := fun h2 h => Tv.of [.ref (A 0), .int n, .int what, U_] (by decide) rfl (fun _ => Nat.le_of_ble_eq_true rfl) h2 (gc_X0_front_0 h)
  by_cases h1 : s8_isIn n 0 999 = 0
  · rw [if_pos h1]
    exact ⟨σ, go rfl ⟨fun _ => ⟨rfl, rfl⟩, fun q => absurd h1 q⟩, kc.rf⟩
  rw [if_neg h1]
  by_cases h2 : s8_isIn what 0 1 = 0
  · rw [if_pos h2]
    exact ⟨σ, go rfl ⟨fun q => absurd q h1, fun _ => ⟨fun q => absurd h2 q, fun _ => ⟨rfl, rfl⟩⟩⟩, kc.rf⟩
  rw [if_neg h2]
  have ev : stV (upA σ.1 21 (upd (σ.1 21) 2 n), σ.2) 1 = stV σ 1 := stV_o (by omega)
  have dr := dresCn (d + 4) (ρ := ρ) (E := E) (A := A) (σ := (upA σ.1 21 (upd (σ.1 21) 2 n), σ.2)) h6 (by rw [ev]; exact hN.2.2.1)
  obtain ⟨σ1, q1, q2⟩ := seekF d (E := E) (A := A) (σ := (upA σ.1 21 (upd (σ.1 21) 2 n), σ.2)) hT (by rw [ev]; exact hN)
  have e2 : (upA σ.1 21 (upd (σ.1 21) 2 n)) 21 2 = n := by rw [upA_s, upd_s]
  rw [ev] at dr q1
  dsimp only at q1
  rw [e2] at q1
  obtain ⟨s, hs, es⟩ := wearers_n (stV σ 1) h6
  have cs : (wearers8 (stV σ 1) (ρ.1 0)).toNatClampNeg = s := by rw [es]; exact cl (by omega)
  have hb := front_lt (v := stV σ 1) (nm := ρ.1 0) (may := wearers8 (stV σ 1) (ρ.1 0)) (n := n) ((wearers8 (stV σ 1) (ρ.1 0)).toNatClampNeg + 1)
  rw [cs] at q1 hb ⊢
  generalize frontE (stV σ 1) (ρ.1 0) (wearers8 (stV σ 1) (ρ.1 0)) n (s + 1) = f at q1 hb
  refine ⟨σ1, go (q1.1.trans rfl) ⟨fun q => absurd q h1, fun _ => ⟨fun _ => ⟨_, _, dr, _, _, q1, ?_, rfl⟩, fun q => absurd q h2⟩⟩, (kc.rf.up (o := 21) (by decide) _ : kc [21] σ (upA σ.1 21 (upd (σ.1 21) 2 n), σ.2)).tr q2⟩
  rcases hb with hb | ⟨b, hb, rfl⟩
  · subst hb
    rw [if_neg (by decide), if_neg (by decide)]
  · rw [show sj_bitCount (nI b) = s8_members (nI b) from bit_mem ⟨b, by omega⟩]
/-! wings -/
theorem low64 : ∀ s : Fin 64, sj_lowestOneBit (nI s.val) = fst8 (nI s.val) := by decide +kernel
theorem lowin64 : ∀ (s k : Fin 64), nI s.val ≠ 0 → ((nI k.val &&& fst8 (nI s.val)) = 0 ↔ ¬ (nI k.val &&& fst8 (nI s.val)) = fst8 (nI s.val)) := by decide +kernel
theorem fst64 : ∀ s : Fin 64, (nI s.val &&& fst8 (nI s.val)) = fst8 (nI s.val) := by decide +kernel
theorem part64 : ∀ (k s : Fin 64), (nI k.val &&& (nI s.val ^^^ (-1))) = 0 → ∀ m : Fin 6, hasB (nI s.val) m.val = (hasB (nI k.val) m.val || hasB (nI s.val &&& (nI k.val ^^^ (-1))) m.val) ∧ (hasB (nI k.val) m.val && hasB (nI s.val &&& (nI k.val ^^^ (-1))) m.val) = false := by decide +kernel
theorem wide_add {v : Nat → Int32} {k s : Nat} (hk : k < 64) (hs : s < 64) (h : (nI k &&& (nI s ^^^ (-1))) = 0) : ∀ n, n ≤ 6 → wideE v (nI s) n = wideE v (nI k) n + wideE v (nI s &&& (nI k ^^^ (-1))) n := by
  intro n
  induction n with
  | zero => intro _; show (0 : Int32) = 0 + 0; rfl
  | succ n ih =>
    intro hn
    obtain ⟨p1, p2⟩ := part64 ⟨k, hk⟩ ⟨s, hs⟩ h ⟨n, by omega⟩
    dsimp only at p1 p2
    have e : ∀ set : Int32, wideE v set (n + 1) = wideE v set n + (if hasB set n then v (18 + (v (6 + n)).toNatClampNeg) else 0) := fun _ => rfl
    rw [e, e, e, ih (by omega), p1]
    generalize wideE v (nI k) n = a
    generalize wideE v (nI s &&& (nI k ^^^ (-1))) n = b
    generalize v (18 + (v (6 + n)).toNatClampNeg) = x
    cases b1 : hasB (nI k) n with
    | true =>
      cases b2 : hasB (nI s &&& (nI k ^^^ (-1))) n with
      | true => rw [b1, b2] at p2; exact absurd p2 (by decide)
      | false =>
        show a + b + x = (a + x) + (b + 0)
        rw [Int32.add_zero, Int32.add_assoc, Int32.add_comm b x, ← Int32.add_assoc]
    | false =>
      cases b2 : hasB (nI s &&& (nI k ^^^ (-1))) n with
      | true =>
        show a + b + x = (a + 0) + (b + x)
        rw [Int32.add_zero, Int32.add_assoc]
      | false =>
        show a + b + 0 = (a + 0) + (b + 0)
        rw [Int32.add_zero, Int32.add_zero, Int32.add_zero]
/-- breadths are small numbers -/
theorem wide_n {v : Nat → Int32} {nm nc : Nat} {set : Int32} (hc6 : nc ≤ 6) (hr : rgV v nm nc) : ∀ n, n ≤ nm → (∀ m, m < n → hasB set m = true → ∃ c, c < nc ∧ v (6 + m) = nI c) → ∃ a, a ≤ 99 * n ∧ wideE v set n = nI a := by
  intro n
  induction n with
  | zero => intro _ _; exact ⟨0, by omega, rfl⟩
  | succ n ih =>
    intro hn h
    obtain ⟨a, ha, e⟩ := ih (by omega) (fun m hm => h m (by omega))
    have es : wideE v set (n + 1) = wideE v set n + (if hasB set n then v (18 + (v (6 + n)).toNatClampNeg) else 0) := rfl
    rw [es, e]
    cases hb : hasB set n with
    | false => exact ⟨a, by omega, by rw [if_neg (by decide), Int32.add_zero]⟩
    | true =>
      obtain ⟨c, hc, ec⟩ := h n (by omega) hb
      obtain ⟨x, hx, ex⟩ := okn_nI (hr.2 c hc).2.1
      rw [if_pos rfl, ec, cl (by omega), ex, nI_add]
      exact ⟨a + x, by omega, rfl⟩
theorem plain_n {a b : Nat} (ha : a ≤ 10000) (hb : b ≤ 10000) : s8_plain (nI a - nI b) = nI (max (a - b) (b - a)) := by
  have h := pk_sub_toInt (a := a) (b := b) (by omega) (by omega)
  have z0 : (0 : Int32).toInt = 0 := rfl
  unfold s8_plain
  by_cases q : b ≤ a
  · rw [if_pos (by rw [Int32.le_iff_toInt_le, h, z0]; omega), pk_sub q]
    congr 1
    omega
  · rw [if_neg (by rw [Int32.le_iff_toInt_le, h, z0]; omega), Int32.neg_sub, pk_sub (by omega)]
    congr 1
    omega
theorem abs_plain (x : Int32) : sj_abs x = s8_plain x := by
  unfold sj_abs s8_plain
  rw [Int32.zero_sub]
/-- the cost of a set of wearers: how unlike the wings are -/
theorem cost_own {v : Nat → Int32} {nm nc k s : Nat} (h6 : nm ≤ 6) (hc6 : nc ≤ 6) (hr : rgV v nm nc) (hW : okW v nm nc) (hk : k < 64) (hs : s < 64) (es : wearers8 v nm = nI s) (h : (nI k &&& (nI s ^^^ (-1))) = 0) :
    ∃ w a, a ≤ w ∧ w ≤ 2000 ∧ wideE v (nI s) nm = nI w ∧ ownW v nm (nI s) k = nI (max (2 * a - w) (w - 2 * a)) ∧ sj_abs (brE v (nI s) nm - 2 * brE v (nI k) nm) = ownW v nm (nI s) k := by
  have e1 : brE v (nI s) nm = wideE v (nI s) nm := br_sub h6 hW hs (by rw [es]; exact self64 ⟨s, hs⟩)
  have e2 : brE v (nI k) nm = wideE v (nI k) nm := br_sub h6 hW hk (by rw [es]; exact h)
  obtain ⟨a, ha, ea⟩ := wide_n (set := nI k) hc6 hr nm (Nat.le_refl _) (fun m hm hb => wearers_has h6 hW hm (by rw [es]; exact sub64 ⟨k, hk⟩ ⟨s, hs⟩ h ⟨m, by omega⟩ hb))
  obtain ⟨b, hb, eb⟩ := wide_n (set := nI s &&& (nI k ^^^ (-1))) hc6 hr nm (Nat.le_refl _) (fun m hm hb => wearers_has h6 hW hm (by rw [es]; exact dif64 ⟨k, hk⟩ ⟨s, hs⟩ ⟨m, by omega⟩ hb))
  have ew : wideE v (nI s) nm = nI (a + b) := by rw [wide_add hk hs h nm h6, ea, eb, nI_add]
  have eo : ownW v nm (nI s) k = nI (max (2 * a - (a + b)) ((a + b) - 2 * a)) := by
    unfold ownW
    rw [ea, eb, plain_n (by omega) (by omega)]
    congr 1
    omega
  refine ⟨a + b, a, by omega, by omega, ew, eo, ?_⟩
  have e3 : (2 : Int32) * nI a = nI (2 * a) := pk_mul 2 a
  rw [abs_plain, e1, e2, ew, ea, e3, plain_n (by omega) (by omega), eo]
  congr 1
  omega
theorem doesW (d : Nat) {s : Nat} (x : Int32) (hT : tlV ρ) (hN : okNow ρ (stV σ 1)) (hs : s < 64) (es : wearers8 (stV σ 1) (ρ.1 0) = nI s) : Tv ρ E A mX6_does (d + 2) 0 0 [.ref (A 22), .int x] σ (some (.int (if nI s = 0 then 1 else if (x &&& fst8 (nI s)) = 0 then 0 else 1))) σ := by
  have dr := dresCn d (ρ := ρ) (E := E) (A := A) (σ := σ) hT.1 hN.2.2.1
  rw [es] at dr
  refine Tv.of [.ref (A 22), .int x] (by decide) rfl (fun _ => Nat.le_of_ble_eq_true rfl) rfl (gc_X6_does_0 ⟨_, _, dr, fun q => ⟨by rw [if_pos q], rfl⟩, fun q => ⟨_, _, dr, ?_, rfl⟩⟩)
  rw [if_neg q, show sj_lowestOneBit (nI s) = fst8 (nI s) from low64 ⟨s, hs⟩]
theorem costW (d : Nat) {s : Nat} (x : Int32) (hT : tlV ρ) (hN : okNow ρ (stV σ 1)) (es : wearers8 (stV σ 1) (ρ.1 0) = nI s) : Tv ρ E A mX6_cost (d + 4) 0 0 [.ref (A 22), .int x] σ (some (.int (sj_abs (brE (stV σ 1) (nI s) (ρ.1 0) - 2 * brE (stV σ 1) x (ρ.1 0))))) σ := by
  have dr := dresCn (d + 2) (ρ := ρ) (E := E) (A := A) (σ := σ) hT.1 hN.2.2.1
  rw [es] at dr
  exact Tv.of [.ref (A 22), .int x] (by decide) rfl (fun _ => Nat.le_of_ble_eq_true rfl) rfl (gc_X6_cost_0 ⟨_, _, dr, _, _, brdC d _ hT.1 hT.2.1 hN.2.1, _, _, brdC d _ hT.1 hT.2.1 hN.2.1, rfl, rfl⟩)
/-- a set may be a wing -/
def elig (s k : Nat) : Bool := decide ((nI k &&& (nI s ^^^ (-1))) = 0 ∧ (nI k &&& fst8 (nI s)) = fst8 (nI s))
/-- the best wing so far (none yet: -1), and the twin's pair -/
def wInv (v : Nat → Int32) (nm s k : Nat) (b : Int32) : Prop := (b = -1 ∧ wingE v nm (nI s) k = (nI s, wideE v (nI s) nm) ∧ ∀ j, j < k → elig s j = false) ∨ ∃ j, j < k ∧ b = nI j ∧ elig s j = true ∧ wingE v nm (nI s) k = (nI j, ownW v nm (nI s) j)
theorem seekW (d : Nat) {s : Nat} (hT : tlV ρ) (hN : okNow ρ (stV σ 1)) (hs : s < 64) (es : wearers8 (stV σ 1) (ρ.1 0) = nI s) : ∃ σ1 j, Tv ρ E A mX4_seek (d + 5) 0 0 [.ref (A 22), .int (nI s)] σ (some (.int (nI j))) σ1 ∧ kc [22] σ σ1 ∧ j < 64 ∧ (nI j &&& (nI s ^^^ (-1))) = 0 ∧ wingE (stV σ 1) (ρ.1 0) (nI s) (s + 1) = (nI j, ownW (stV σ 1) (ρ.1 0) (nI s) j) := by
  have h6 := hT.1
  have h6c := hT.2.1
  generalize hv : stV σ 1 = v
  rw [hv] at es hN
  have co : ∀ k, k < 64 → (nI k &&& (nI s ^^^ (-1))) = 0 → _ := fun k hk h => cost_own (v := v) (nm := ρ.1 0) (nc := ρ.1 1) (k := k) (s := s) h6 h6c hN.1 hN.2.1 hk hs es h
  obtain ⟨_, τ, ⟨a1, a2⟩, a3⟩ := iterC (T := Unit) (fun k _ τ r σ1 => Rv ρ E A mX4_seek (d + 5) 0 0 7 [.ref (A 22), .int (nI s), .int (nI k)] [] τ r σ1) (fun k _ τ => kc [22] σ τ ∧ wInv v (ρ.1 0) s k (τ.1 22 0)) (s + 1) (by
    rintro k ⟨⟩ τ hk ⟨q1, q2⟩
    have ev : stV τ 1 = v := by rw [stV_kc q1 (by decide)]; exact hv
    have hex : ¬ nI s < nI k := by rw [i32_nlt]; exact nI_le (by omega) (by omega)
    have kup : kc [22] σ (upA τ.1 22 (upd (τ.1 22) 0 (nI k)), τ.2) := q1.up (o := 22) (by decide) _
    have k0 : (upA τ.1 22 (upd (τ.1 22) 0 (nI k))) 22 0 = nI k := by rw [upA_s, upd_s]
    have hd := doesW (d + 2) (E := E) (A := A) (σ := τ) (nI k) hT (by rw [ev]; exact hN) hs (by rw [ev]; exact es)
    -- not a wing
    have skip : elig s k = false → wInv v (ρ.1 0) s (k + 1) (τ.1 22 0) := by
      intro he
      have he' : ¬ ((nI k &&& (nI s ^^^ (-1))) = 0 ∧ (nI k &&& fst8 (nI s)) = fst8 (nI s)) := of_decide_eq_false he
      have ew : wingE v (ρ.1 0) (nI s) (k + 1) = wingE v (ρ.1 0) (nI s) k := by
        rw [wingE_s, if_neg (fun z => he' ⟨z.1, z.2.1⟩)]
      rcases q2 with ⟨z1, z2, z3⟩ | ⟨j, z1, z2, z3, z4⟩
      · refine Or.inl ⟨z1, by rw [ew, z2], fun j hj => ?_⟩
        by_cases e : j = k
        · subst e; exact he
        · exact z3 j (by omega)
      · exact Or.inr ⟨j, by omega, z2, z3, by rw [ew, z4]⟩
    by_cases c1 : (nI k &&& (nI s ^^^ (-1))) = 0
    · by_cases c2 : (nI k &&& fst8 (nI s)) = fst8 (nI s)
      · have he : elig s k = true := decide_eq_true ⟨c1, c2⟩
        have ed : (if nI s = 0 then (1 : Int32) else if (nI k &&& fst8 (nI s)) = 0 then 0 else 1) = 1 := by
          by_cases z : nI s = 0
          · rw [if_pos z]
          · rw [if_neg z, if_neg (fun y => (lowin64 ⟨s, hs⟩ ⟨k, by omega⟩ z).mp y c2)]
        rw [ed] at hd
        have g1 := costW d (E := E) (A := A) (σ := τ) (nI k) hT (by rw [ev]; exact hN) (by rw [ev]; exact es)
        obtain ⟨w, a, b1, b2, b3, b4, b5⟩ := co k (by omega) c1
        rw [ev, b5] at g1
        rcases q2 with ⟨z1, z2, z3⟩ | ⟨j, z1, z2, z3, z4⟩
        · -- the first
          refine ⟨(), _, ⟨kup, Or.inr ⟨k, by omega, k0, he, ?_⟩⟩, fun r σ1 h => ?_⟩
          · rw [wingE_s, z2]
            have hle : ¬ nI w < nI (max (2 * a - w) (w - 2 * a)) := by rw [i32_nlt]; exact nI_le (by omega) (by omega)
            by_cases y : nI k < nI s
            · rw [if_pos ⟨c1, c2, by rw [b3, b4]; exact hle, Or.inr y⟩]
            · have ks : k = s := Nat.le_antisymm (by omega) (Nat.not_lt.mp (fun q => y (nI_lt q (by omega))))
              by_cases x : ownW v (ρ.1 0) (nI s) k = wideE v (nI s) (ρ.1 0)
              · rw [if_neg (fun u => u.2.2.2.elim (fun p => p x) (fun p => y p)), x, ks]
              · rw [if_pos ⟨c1, c2, by rw [b3, b4]; exact hle, Or.inl x⟩]
          · exact gc_X4_seekw_7 ⟨fun q => absurd q hex, fun _ => ⟨fun q => absurd c1 q, fun _ => ⟨_, _, hd, fun q => absurd q (by decide), fun _ => ⟨fun _ => by rw [nI_1]; exact h, fun q => absurd (by rw [z1]; decide) q⟩⟩⟩⟩
        · have hj1 : (nI j &&& (nI s ^^^ (-1))) = 0 := (of_decide_eq_true z3).1
          have g2 := costW d (E := E) (A := A) (σ := τ) (nI j) hT (by rw [ev]; exact hN) (by rw [ev]; exact es)
          obtain ⟨w', a', d1, d2, d3, d4, d5⟩ := co j (by omega) hj1
          rw [ev, d5] at g2
          have hnn : ¬ τ.1 22 0 < 0 := by rw [z2]; exact nI_nneg (by omega)
          have hjk : ¬ nI k < nI j := by rw [i32_nlt]; exact nI_le (by omega) (by omega)
          by_cases c4 : ownW v (ρ.1 0) (nI s) k < ownW v (ρ.1 0) (nI s) j
          · refine ⟨(), _, ⟨kup, Or.inr ⟨k, by omega, k0, he, ?_⟩⟩, fun r σ1 h => ?_⟩
            · rw [wingE_s, z4, if_pos ⟨c1, c2, fun u => Int32.lt_asymm u c4, Or.inl (fun u => by rw [u] at c4; exact Int32.lt_irrefl c4)⟩]
            · exact gc_X4_seekw_7 ⟨fun q => absurd q hex, fun _ => ⟨fun q => absurd c1 q, fun _ => ⟨_, _, hd, fun q => absurd q (by decide), fun _ => ⟨fun q => absurd q hnn, fun _ => ⟨_, _, g1, _, _, by rw [z2]; exact g2, fun _ => by rw [nI_1]; exact h, fun q => absurd c4 q⟩⟩⟩⟩⟩
          · refine ⟨(), τ, ⟨q1, Or.inr ⟨j, by omega, z2, z3, ?_⟩⟩, fun r σ1 h => ?_⟩
            · rw [wingE_s, z4, if_neg]
              rintro ⟨_, _, u1, u2⟩
              rcases u2 with u2 | u2
              · rcases Int32.lt_or_eq_of_le (Int32.not_lt.mp u1) with p | p
                · exact c4 p
                · exact u2 p
              · exact hjk u2
            · exact gc_X4_seekw_7 ⟨fun q => absurd q hex, fun _ => ⟨fun q => absurd c1 q, fun _ => ⟨_, _, hd, fun q => absurd q (by decide), fun _ => ⟨fun q => absurd q hnn, fun _ => ⟨_, _, g1, _, _, by rw [z2]; exact g2, fun q => absurd q c4, fun _ => by rw [nI_1]; exact h⟩⟩⟩⟩⟩
      · have he : elig s k = false := decide_eq_false (fun z => c2 z.2)
        have z : ¬ nI s = 0 := fun q => c2 (by rw [q, show fst8 0 = 0 by decide]; exact Int32.and_zero)
        have ed : (if nI s = 0 then (1 : Int32) else if (nI k &&& fst8 (nI s)) = 0 then 0 else 1) = 0 := by
          rw [if_neg z, if_pos ((lowin64 ⟨s, hs⟩ ⟨k, by omega⟩ z).mpr c2)]
        rw [ed] at hd
        refine ⟨(), τ, ⟨q1, skip he⟩, fun r σ1 h => ?_⟩
        exact gc_X4_seekw_7 ⟨fun q => absurd q hex, fun _ => ⟨fun q => absurd c1 q, fun _ => ⟨_, _, hd, fun _ => by rw [nI_1]; exact h, fun q => absurd rfl q⟩⟩⟩
    · have he : elig s k = false := decide_eq_false (fun z => c1 z.1)
      refine ⟨(), τ, ⟨q1, skip he⟩, fun r σ1 h => ?_⟩
      exact gc_X4_seekw_7 ⟨fun q => absurd q hex, fun _ => ⟨fun _ => by rw [nI_1]; exact h, fun q => absurd q c1⟩⟩) 0 () (upA σ.1 22 (upd (σ.1 22) 0 (-1)), σ.2) (Nat.zero_le _) ⟨kc.rf.up (o := 22) (by decide) _, Or.inl ⟨by show upA σ.1 22 (upd (σ.1 22) 0 (-1)) 22 0 = _; rw [upA_s, upd_s], rfl, fun j hj => absurd hj (by omega)⟩⟩
  rcases a2 with ⟨z1, z2, z3⟩ | ⟨j, z1, z2, z3, z4⟩
  · have := z3 s (by omega)
    rw [show elig s s = true from decide_eq_true ⟨self64 ⟨s, hs⟩, fst64 ⟨s, hs⟩⟩] at this
    exact absurd this (by decide)
  · exact ⟨τ, j, Tv.of [.ref (A 22), .int (nI s), U_] (by decide) rfl (fun _ => Nat.le_of_ble_eq_true rfl) a1.1 (gc_X4_seekw_0 (a3 _ _ (gc_X4_seekw_7 ⟨fun _ => ⟨by rw [z2], rfl⟩, fun q => absurd (nI_lt (by omega) (by omega)) q⟩))), a1, by omega, (of_decide_eq_true z3).1, z4⟩
theorem wingsCM (d : Nat) (what : Int32) (hT : tlV ρ) (hN : okNow ρ (stV σ 1)) :
    ∃ σ1, Tv ρ E A mX0_wings (d + 6) 0 0 [.ref (A 0), .int what] σ (some (.int (if s8_isIn what 0 1 = 0 then -1 else if what = 0 then (wingE (stV σ 1) (ρ.1 0) (wearers8 (stV σ 1) (ρ.1 0)) ((wearers8 (stV σ 1) (ρ.1 0)).toNatClampNeg + 1)).2 else (wingE (stV σ 1) (ρ.1 0) (wearers8 (stV σ 1) (ρ.1 0)) ((wearers8 (stV σ 1) (ρ.1 0)).toNatClampNeg + 1)).1))) σ1 ∧ kc [22] σ σ1 := by
  have h6 := hT.1
  have h6c := hT.2.1
  have go : ∀ {r σ1}, σ1.2 = σ.2 → _ → Tv ρ E A mX0_wings (d + 6) 0 0 [.ref (A 0), .int what] σ r σ1 := fun h2 h => Tv.of [.ref (A 0), .int what, U_] (by decide) rfl (fun _ => Nat.le_of_ble_eq_true rfl) h2 (gc_X0_wings_0 h)
  by_cases h1 : s8_isIn what 0 1 = 0
  · rw [if_pos h1]
    exact ⟨σ, go rfl ⟨fun q => absurd h1 q, fun _ => ⟨rfl, rfl⟩⟩, kc.rf⟩
  rw [if_neg h1]
  obtain ⟨s, hs, es⟩ := wearers_n (stV σ 1) h6
  have dr := dresCn (d + 4) (ρ := ρ) (E := E) (A := A) (σ := σ) h6 hN.2.2.1
  obtain ⟨σ1, j, q1, q2, q3, q4, q5⟩ := seekW d (E := E) (A := A) (σ := σ) hT hN hs es
  have ev : stV σ1 1 = stV σ 1 := stV_kc q2 (by decide)
  have g1 := costW (d + 1) (E := E) (A := A) (σ := σ1) (nI j) hT (by rw [ev]; exact hN) (by rw [ev]; exact es)
  obtain ⟨w, a, b1, b2, b3, b4, b5⟩ := cost_own (k := j) (s := s) h6 h6c hN.1 hN.2.1 q3 hs es q4
  rw [ev, b5] at g1
  rw [es] at dr ⊢
  rw [cl (by omega), q5]
  refine ⟨σ1, go (q1.1.trans rfl) ⟨fun _ => ⟨_, _, dr, _, _, q1, fun w0 => ⟨?_, rfl⟩, fun w0 => ⟨_, _, g1, ?_, rfl⟩⟩, fun q => absurd q h1⟩, q2⟩
  · rw [if_neg w0]
  · rw [if_pos w0]
end C6
