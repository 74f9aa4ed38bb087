/-! the component: what to ask -/
set_option maxRecDepth 100000
theorem cnt_split {f g : Nat → Bool} : ∀ n, cnt8 (fun i => f i && !g i) n = cnt8 f n - cnt8 (fun i => f i && g i) n := by
  intro n
  induction n with
  | zero => show (0 : Int32) = 0 - 0; decide
  | succ n ih =>
    rw [← cnt8_s, ← cnt8_s, ← cnt8_s, ih]
    generalize cnt8 f n = a
    generalize cnt8 (fun i => f i && g i) n = b
    cases f n <;> cases g n
    · show a - b + 0 = a + 0 - (b + 0)
      simp
    · show a - b + 0 = a + 0 - (b + 0)
      simp
    · show a - b + 1 = a + 1 - (b + 0)
      rw [Int32.add_zero, Int32.sub_eq_add_neg, Int32.sub_eq_add_neg, Int32.add_assoc, Int32.add_comm (-b) 1, ← Int32.add_assoc]
    · show a - b + 0 = a + 1 - (b + 1)
      rw [Int32.add_zero, Int32.sub_eq_add_neg, Int32.sub_eq_add_neg, Int32.neg_add, Int32.sub_eq_add_neg, Int32.add_assoc, Int32.add_comm (-b) (-1), ← Int32.add_assoc 1, Int32.add_right_neg, Int32.zero_add]
section As
variable {ρ : Rho} {fr : Nat → Option va_E} {A : Nat → Nat} {D : Dn} {σ : Sg}
theorem mostC (d : Nat) {n : Nat} (k : Int32) (hs : sgOK D σ) (hS : okSg D) (hn : n ≤ 20) (hf : ∀ g dd, g ≤ 30 → dd ≤ 20 → σ.1 25 (21 * g + dd) = bi (wfC ρ g dd)) : Tv ρ (ED ρ fr A D) A mX0_mostBy (d + 5) 31 124 [.ref (A 0), .int (nI n), .int k] σ (some (.int (leftE (okC ρ D k) (wfC ρ) (cnt8 (okC ρ D k) 31) n))) σ := by
  obtain ⟨p, τ, ⟨a1, a2⟩, a3⟩ := iterC (T := Int32 × Int32) (fun g p τ r σ1 => Rv ρ (ED ρ fr A D) A mX0_mostBy (d + 5) (31 - g) (124 - 4 * g) 8 [.ref (A 0), .int (nI n), .int k, .int p.1, .int p.2, .int (nI g)] [] τ r σ1) (fun g p τ => p = (cnt8 (fun g => okC ρ D k g && wfC ρ g n) g, cnt8 (fun g => okC ρ D k g && !wfC ρ g n) g) ∧ τ = σ) 31 (by
    rintro g p τ hg ⟨q0, q1⟩
    subst q1
    have hi := isSoC (d + 1) (ρ := ρ) (fr := fr) (A := A) (D := D) (σ := τ) (g := g) k (wfC ρ) hs (by omega) hS (fun dd hdd => hf g dd (by omega) hdd)
    have e21 : (21 : Int32) * nI g + nI n = nI (21 * g + n) := n21 g n
    refine ⟨_, τ, ⟨rfl, rfl⟩, fun r σ1 h => ?_⟩
    dsimp only at h
    rw [show 31 - (g + 1) = 31 - g - 1 by omega, show 124 - 4 * (g + 1) = 124 - 4 * g - 4 by omega] at h
    refine gc_X0_mostBy_8 ⟨fun q => absurd q (by rw [i32_nlt]; exact nI_le (b := 30) (by omega) (by decide)), fun _ => ⟨1, 4, _, τ, hi, ⟨by omega, by omega⟩, fun q => ⟨by rw [e21]; exact vin (show 21 * g + n < 651 by omega) (by decide), ?_⟩, fun q => ?_⟩⟩
    · have hb : okC ρ D k g = true := bi_ne q
      rw [e21, cl (by omega), hf g n (by omega) hn, q0]
      refine ⟨fun z => ?_, fun z => ?_⟩
      · have hw : wfC ρ g n = false := (bi_0 _).mp z
        rw [← cnt_f (f := fun g => okC ρ D k g && wfC ρ g n) (k := g) (by rw [hw, Bool.and_false]), ← cnt_t (f := fun g => okC ρ D k g && !wfC ρ g n) (k := g) (by rw [hb, hw]; rfl)] at h
        rw [nI_1]
        exact h
      · have hw : wfC ρ g n = true := bi_ne z
        rw [← cnt_t (f := fun g => okC ρ D k g && wfC ρ g n) (k := g) (by rw [hb, hw]; rfl), ← cnt_f (f := fun g => okC ρ D k g && !wfC ρ g n) (k := g) (by rw [hw]; exact Bool.and_false _)] at h
        rw [nI_1]
        exact h
    · have hb : okC ρ D k g = false := (bi_0 _).mp q
      rw [← cnt_f (f := fun g => okC ρ D k g && wfC ρ g n) (k := g) (by rw [hb, Bool.false_and]), ← cnt_f (f := fun g => okC ρ D k g && !wfC ρ g n) (k := g) (by rw [hb, Bool.false_and])] at h
      rw [q0, nI_1]
      exact h) 0 (0, 0) σ (Nat.zero_le _) ⟨rfl, rfl⟩
  subst a1; subst a2
  refine Tv.of [.ref (A 0), .int (nI n), .int k, U_, U_, U_] (by decide) rfl (fun _ => Nat.le_of_ble_eq_true rfl) rfl (gc_X0_mostBy_0 (a3 _ _ (gc_X0_mostBy_8 ⟨fun _ => ⟨?_, rfl⟩, fun q => absurd (by decide) q⟩)))
  dsimp only
  unfold leftE
  rw [max_g, cnt_split]
theorem askC (d : Nat) (what k : Int32) (hT : tlV ρ) (hO : okB ρ) (hs : sgOK D σ) (hS : okSg D) : ∃ σ1, Tv ρ (ED ρ fr A D) A mX0_ask (d + 305) 1302 5208 [.ref (A 0), .int what, .int k] σ (some (.int (if s8_isIn what 0 1 = 0 then -1 else if growCE ρ D k = 0 then -1 else if what = 0 then nI (bestE (leftE (okC ρ D k) (wfC ρ) (growCE ρ D k)) 20) else leftE (okC ρ D k) (wfC ρ) (growCE ρ D k) (bestE (leftE (okC ρ D k) (wfC ρ) (growCE ρ D k)) 20)))) σ1 ∧ kc lpl σ σ1 := by
  have go : ∀ {r σ1}, σ1.2 = σ.2 → _ → Tv ρ (ED ρ fr A D) A mX0_ask (d + 305) 1302 5208 [.ref (A 0), .int what, .int k] σ r σ1 := fun h2 h => Tv.of [.ref (A 0), .int what, .int k, U_, U_] (by decide) rfl (fun _ => Nat.le_of_ble_eq_true rfl) h2 (gc_X0_ask_0 h)
  by_cases h1 : s8_isIn what 0 1 = 0
  · rw [if_pos h1]
    exact ⟨σ, go rfl ⟨fun _ => ⟨rfl, rfl⟩, fun q => absurd h1 q⟩, kc.rf⟩
  rw [if_neg h1]
  obtain ⟨τ, g1, g2, g3⟩ := growC d (fr := fr) (A := A) (σ := σ) k hT hO hs hS
  by_cases h2 : growCE ρ D k = 0
  · rw [if_pos h2]
    exact ⟨τ, go g2.1 ⟨fun q => absurd q h1, fun _ => ⟨31, 124, _, τ, g1, ⟨by decide, by decide⟩, fun q => absurd h2 q, fun _ => ⟨rfl, rfl⟩⟩⟩, g2⟩
  rw [if_neg h2]
  have hn : 0 < ρ.1 0 ∧ 0 < ρ.1 1 := by
    unfold growCE at h2
    by_cases z : ρ.1 0 = 0 ∨ ρ.1 1 = 0
    · rw [if_pos z] at h2; exact absurd rfl h2
    · omega
  have hc : growCE ρ D k = cnt8 (okC ρ D k) 31 := by
    unfold growCE
    rw [if_neg (by omega)]
  have hs0 : sgOK D τ := hs.kc g2 (by decide)
  have hm : ∀ n, n ≤ 20 → _ := fun n hn' => mostC (d + 299) (ρ := ρ) (fr := fr) (A := A) (D := D) (σ := τ) (n := n) k hs0 hS hn' (g3 hn.1 hn.2)
  rw [← hc] at hm
  generalize hlf : leftE (okC ρ D k) (wfC ρ) (growCE ρ D k) = lf at hm
  obtain ⟨b, τ1, ⟨a1, a2⟩, a3⟩ := iterC (T := Nat) (fun j b τ r σ1 => Rv ρ (ED ρ fr A D) A mX0_ask (d + 305) (1271 - 62 * j) (5084 - 248 * j) 24 [.ref (A 0), .int what, .int k, .int (nI b), .int (nI (j + 1))] [] τ r σ1) (fun j b τ' => b = bestE lf j ∧ τ' = τ) 20 (by
    rintro j b τ' hj ⟨q0, q1⟩
    subst q1
    have hb := bestE_le lf j
    refine ⟨_, τ', ⟨rfl, rfl⟩, fun r σ1 h => ?_⟩
    rw [bestE_s, ← q0, show 1271 - 62 * (j + 1) = 1271 - 62 * j - 31 - 31 by omega, show 5084 - 248 * (j + 1) = 5084 - 248 * j - 124 - 124 by omega] at h
    refine gc_X0_ask_24 ⟨fun q => absurd q (by rw [i32_nlt]; exact nI_le (b := 20) (by omega) (by decide)), fun _ => ⟨31, 124, _, τ', hm (j + 1) (by omega), ⟨by omega, by omega⟩, 31, 124, _, τ', hm b (by omega), ⟨by omega, by omega⟩, fun q => ?_, fun q => ?_⟩⟩
    · rw [if_pos q] at h
      rw [nI_1]
      exact h
    · rw [if_neg q] at h
      rw [nI_1]
      exact h) 0 0 τ (Nat.zero_le _) ⟨rfl, rfl⟩
  subst a2
  have hb := bestE_le lf 20
  refine ⟨τ1, go g2.1 ⟨fun q => absurd q h1, fun _ => ⟨31, 124, _, τ1, g1, ⟨by decide, by decide⟩, fun _ => a3 _ _ (gc_X0_ask_24 ⟨fun _ => ⟨fun w0 => ⟨31, 124, _, τ1, hm b (by omega), ⟨by omega, by omega⟩, ?_, rfl⟩, fun w0 => ⟨?_, rfl⟩⟩, fun q => absurd (by decide) q⟩), fun q => absurd q h2⟩⟩, g2⟩
  · rw [if_neg w0, a1]
  · rw [if_pos w0, a1]
end As
