/-! the twin's public members: changing, a front, wings -/
set_option maxRecDepth 100000
/-- two change their coats -/
def chV (v : Nat → Int32) (a b : Nat) : Nat → Int32 := upd (upd v (6 + a) (v (6 + b))) (6 + b) (v (6 + a))
theorem chV_ok {v : Nat → Int32} {nm nc a b : Nat} (ha : a < nm) (hb : b < nm) (h : okW v nm nc) : okW (chV v a b) nm nc := by
  intro m hm
  unfold chV
  by_cases e1 : m = b
  · subst e1; rw [upd_s]; exact h a ha
  · rw [upd_n (by omega)]
    by_cases e2 : m = a
    · subst e2; rw [upd_s]; exact h b hb
    · rw [upd_n (by omega)]; exact h m hm
/-- (the most, the best) over the partners of a -/
def chI (sc : Nat → Nat → Int32) (a : Nat) (p : Int32 × Int32) (n : Nat) : Int32 × Int32 := acc8 (fun b p => if a < b then (if p.1 < sc a b then (sc a b, (6 * nI a) + nI b) else p) else p) p n
theorem chI_s (sc : Nat → Nat → Int32) (a : Nat) (p : Int32 × Int32) (b : Nat) : chI sc a p (b + 1) = if a < b then (if (chI sc a p b).1 < sc a b then (sc a b, (6 * nI a) + nI b) else chI sc a p b) else chI sc a p b := rfl
theorem chI_lo (sc : Nat → Nat → Int32) (a : Nat) (p : Int32 × Int32) : ∀ n, n ≤ a + 1 → chI sc a p n = p := by
  intro n
  induction n with
  | zero => intro _; rfl
  | succ n ih =>
    intro h
    rw [chI_s, if_neg (by omega)]
    exact ih (by omega)
def chO (sc : Nat → Nat → Int32) (nm : Nat) (p : Int32 × Int32) (n : Nat) : Int32 × Int32 := acc8 (fun a p => chI sc a p nm) p n
theorem chO_s (sc : Nat → Nat → Int32) (nm : Nat) (p : Int32 × Int32) (a : Nat) : chO sc nm p (a + 1) = chI sc a (chO sc nm p a) nm := rfl
def chE (e : E8) (v : Nat → Int32) (nm : Nat) : Int32 × Int32 := chO (fun a b => fitN e (chV v a b) nm) nm (fitN e v nm, -1) nm
theorem changeM (d : Nat) (σ : S8) (what : Int32) {nm nc : Nat} (hR : R8 σ nm nc) (hW : okW (σ.2.1 59) nm nc) :
    M8 mX8_change (d + 8) [.int what] σ (if s8_isIn what 0 2 = 0 then -1 else if 0 ≤ (chE (env8 σ) (σ.2.1 59) nm).2 then (if what = 0 then (chE (env8 σ) (σ.2.1 59) nm).2 / 6 else if what = 1 then (chE (env8 σ) (σ.2.1 59) nm).2 - (chE (env8 σ) (σ.2.1 59) nm).2 / 6 * 6 else (chE (env8 σ) (σ.2.1 59) nm).1) else -1) σ := by
  have h6 := hR.2.1
  have go : ∀ {r σ1}, _ → Tw8 mX8_change (d + 8) [.int what] σ r σ1 := fun h => Tw8.ofR [.int what, U_, U_, U_, U_, U_] (by decide) (fun _ => rfl) (fun _ _ => Nat.le_of_ble_eq_true rfl) (g8_change_0 h)
  by_cases h1 : s8_isIn what 0 2 = 0
  · rw [if_pos h1]
    exact ⟨σ, go ⟨fun q => absurd h1 q, fun _ => ⟨rfl, rfl⟩⟩, PK.rf⟩
  rw [if_neg h1]
  obtain ⟨σf, f1, f2⟩ : ∃ σf, Tw8 mX8_fitted (d + 7) [] σ (some (.int (set8 (ownE (env8 σ) (σ.2.1 59)) nm))) σf ∧ kp [16, 26, 60] σ σf := by
    obtain ⟨σ1, q1, q2⟩ := fittedOnesT8 d (stA σ 60 (σ.2.1 59)) (fillR hR) (by rw [stA_s]; exact hW)
    rw [stA_s, fillE] at q1
    exact ⟨σ1, Tw8.ofR [] (by decide) (fun _ => rfl) (fun _ _ => Nat.le_of_ble_eq_true rfl) (g8_fitted_0 ⟨_, fillX (d + 5) σ, _, _, q1, rfl, rfl⟩), (stA_kp (by decide) : kp [16, 26, 60] σ (stA σ 60 (σ.2.1 59))).tr (q2.mo (by decide))⟩
  generalize hsc : (fun a b => fitN (env8 σ) (chV (σ.2.1 59) a b) nm) = sc
  have hE : chE (env8 σ) (σ.2.1 59) nm = chO sc nm (fitN (env8 σ) (σ.2.1 59) nm, -1) nm := by unfold chE; rw [hsc]
  rw [hE]
  obtain ⟨p, τ, ⟨a1, a2⟩, a3⟩ := iter8 (A := Int32 × Int32) (fun a p τ r σ1 => Rn8 mX8_change (d + 8) 24 [.int what, .int p.1, .int p.2, .int (nI a), U_, U_] (fun _ => []) τ r σ1) (fun a p τ => p = chO sc nm (fitN (env8 σ) (σ.2.1 59) nm, -1) a ∧ kp [16, 26, 60] σ τ) nm (by
    rintro a p τ ha ⟨q0, q1⟩
    obtain ⟨p', τ1, ⟨b1, b2⟩, b3⟩ := iter8 (A := Int32 × Int32) (fun b p τ r σ1 => Rn8 mX8_change (d + 8) 39 [.int what, .int p.1, .int p.2, .int (nI a), .int (nI b), U_] (fun _ => []) τ r σ1) (fun b p1 τ => p1 = chI sc a p b ∧ kp [16, 26, 60] σ τ ∧ a < b) nm (by
      rintro b p1 τ1 hb ⟨z0, z1, z2⟩
      have e59 : τ1.2.1 59 = σ.2.1 59 := z1.2.2 59 (by decide)
      have k1 : kp [16, 26, 60] σ (stA τ1 60 (τ1.2.1 59)) := z1.tr (stA_kp (by decide))
      have k2 : kp [16, 26, 60] σ ((stA τ1 60 (τ1.2.1 59)).1, upA (stA τ1 60 (τ1.2.1 59)).2.1 60 (chV (σ.2.1 59) a b), (stA τ1 60 (τ1.2.1 59)).2.2.1, (stA τ1 60 (τ1.2.1 59)).2.2.2) := kp1 k1 (by decide)
      obtain ⟨τ2, g1, g2⟩ := fittedOnesT8 (d + 1) _ (hR.kp k2 (by decide) (by decide)) (by
        show okW (upA (stA τ1 60 (τ1.2.1 59)).2.1 60 (chV (σ.2.1 59) a b) 60) nm nc
        rw [upA_s]
        exact chV_ok ha hb hW)
      rw [env8_kp k2 (by decide) (by decide) (by decide)] at g1
      have g1' : Tw8 mX8_fittedOnes (d + 7) [] ((stA τ1 60 (τ1.2.1 59)).1, upA (stA τ1 60 (τ1.2.1 59)).2.1 60 (chV (σ.2.1 59) a b), (stA τ1 60 (τ1.2.1 59)).2.2.1, (stA τ1 60 (τ1.2.1 59)).2.2.2) (some (.int (set8 (ownE (env8 σ) (chV (σ.2.1 59) a b)) nm))) τ2 := by
        have e : upA (stA τ1 60 (τ1.2.1 59)).2.1 60 (chV (σ.2.1 59) a b) 60 = chV (σ.2.1 59) a b := upA_s
        have := g1
        rw [show ((stA τ1 60 (τ1.2.1 59)).1, upA (stA τ1 60 (τ1.2.1 59)).2.1 60 (chV (σ.2.1 59) a b), (stA τ1 60 (τ1.2.1 59)).2.2.1, (stA τ1 60 (τ1.2.1 59)).2.2.2).2.1 60 = chV (σ.2.1 59) a b from e] at this
        exact this
      have esc : s8_members (set8 (ownE (env8 σ) (chV (σ.2.1 59) a b)) nm) = sc a b := by rw [← hsc]; rfl
      refine ⟨chI sc a p (b + 1), τ2, ⟨rfl, k2.tr (g2.mo (by decide)), by omega⟩, fun r σ1 h => ?_⟩
      rw [chI_s, if_pos z2, ← z0] at h
      refine g8_change_39 ⟨fun q => absurd q (by rw [z1.1, hR.1]; exact nI_ge hb (by omega)), fun _ => ⟨_, fillX (d + 6) τ1, by rw [n6]; exact vin (by omega) (by decide), by rw [n6]; exact vin (by omega) (by decide), set8 (ownE (env8 σ) (chV (σ.2.1 59) a b)) nm, τ2, ?_, fun q => ?_, fun q => ?_⟩⟩
      · rw [n6, n6, cl (by omega), cl (by omega), stA_s, stA_n (by decide), e59]
        have := g1'
        rw [e59] at this
        exact this
      · rw [esc] at q ⊢
        rw [if_pos q] at h
        rw [nI_1]
        exact h
      · rw [esc] at q
        rw [if_neg q] at h
        rw [nI_1]
        exact h) (a + 1) p τ (by omega) ⟨(chI_lo sc a p (a + 1) (Nat.le_refl _)).symm, q1, by omega⟩
    refine ⟨_, τ1, ⟨rfl, b2.1⟩, fun r σ1 h => ?_⟩
    rw [chO_s, ← q0, ← b1] at h
    refine g8_change_24 ⟨fun q => absurd q (by rw [q1.1, hR.1]; exact nI_ge ha (by omega)), fun _ => ?_⟩
    rw [nI_1]
    refine b3 _ _ (g8_change_39 ⟨fun _ => ?_, fun q => absurd (by rw [b2.1.1, hR.1]; exact nI_le (Nat.le_refl _) (by omega)) q⟩)
    rw [nI_1]
    exact h) 0 (fitN (env8 σ) (σ.2.1 59) nm, -1) σf (Nat.zero_le _) ⟨rfl, f2⟩
  subst a1
  generalize chO sc nm (fitN (env8 σ) (σ.2.1 59) nm, -1) nm = P at a3
  refine ⟨τ, go ⟨fun _ => ⟨_, _, f1, a3 _ _ (g8_change_24 ⟨fun _ => ⟨fun q => ⟨fun w0 => ⟨fun w1 => ⟨?_, rfl⟩, fun w1 => ⟨?_, rfl⟩⟩, fun w0 => ⟨?_, rfl⟩⟩, fun q => ⟨?_, rfl⟩⟩, fun q => absurd (by rw [a2.1, hR.1]; exact nI_le (Nat.le_refl _) (by omega)) q⟩)⟩, fun q => absurd q h1⟩, PK.of a2 (by decide)⟩
  · rw [if_pos q, if_neg w0, if_neg w1]
  · rw [if_pos q, if_neg w0, if_pos w1]
  · rw [if_pos q, if_pos w0]
  · rw [if_neg q]
/-! sets as numbers -/
theorem set64 : ∀ (b0 b1 b2 b3 b4 b5 : Bool) (n : Fin 7), 0 ≤ (set8 (bl6 b0 b1 b2 b3 b4 b5) n.val).toInt ∧ (set8 (bl6 b0 b1 b2 b3 b4 b5) n.val).toInt < 64 := by decide +kernel
theorem set8_n (f : Nat → Bool) {n : Nat} (hn : n ≤ 6) : ∃ s, s < 64 ∧ set8 f n = nI s := by
  have h : 0 ≤ (set8 f n).toInt ∧ (set8 f n).toInt < 64 := by
    rw [set8_congr n (fun i hi => bl6_f f (show i < 6 by omega))]
    exact set64 (f 0) (f 1) (f 2) (f 3) (f 4) (f 5) ⟨n, by omega⟩
  refine ⟨(set8 f n).toInt.toNat, by omega, Int32.toInt_inj.mp ?_⟩
  rw [nI_toInt (by omega)]
  omega
theorem sub64 : ∀ (k s : Fin 64), (nI k.val &&& (nI s.val ^^^ (-1))) = 0 → ∀ m : Fin 6, hasB (nI k.val) m.val = true → hasB (nI s.val) m.val = true := by decide +kernel
theorem dif64 : ∀ (k s : Fin 64) (m : Fin 6), hasB (nI s.val &&& (nI k.val ^^^ (-1))) m.val = true → hasB (nI s.val) m.val = true := by decide +kernel
/-- the cheapest set that is broad enough -/
def frontE (v : Nat → Int32) (nm : Nat) (may n : Int32) : Nat → Int32 := acc8 (fun k b => if (nI k &&& (may ^^^ (-1))) = 0 ∧ ¬ wideE v (nI k) nm < n ∧ (b < 0 ∨ ¬ s8_members b ≤ s8_members (nI k)) then nI k else b) (-1)
theorem frontE_s (v : Nat → Int32) (nm : Nat) (may n : Int32) (k : Nat) : frontE v nm may n (k + 1) = if (nI k &&& (may ^^^ (-1))) = 0 ∧ ¬ wideE v (nI k) nm < n ∧ (frontE v nm may n k < 0 ∨ ¬ s8_members (frontE v nm may n k) ≤ s8_members (nI k)) then nI k else frontE v nm may n k := rfl
theorem frontM (d : Nat) (σ : S8) (n what : Int32) {nm nc : Nat} (hR : R8 σ nm nc) (hW : okW (σ.2.1 59) nm nc) :
    M8 mX8_front (d + 3) [.int n, .int what] σ (if s8_isIn n 0 999 = 0 then -1 else if s8_isIn what 0 1 = 0 then -1 else if 0 ≤ frontE (σ.2.1 59) nm (wearers8 (σ.2.1 59) nm) n ((wearers8 (σ.2.1 59) nm).toNatClampNeg + 1) then (if what = 0 then s8_members (frontE (σ.2.1 59) nm (wearers8 (σ.2.1 59) nm) n ((wearers8 (σ.2.1 59) nm).toNatClampNeg + 1)) else frontE (σ.2.1 59) nm (wearers8 (σ.2.1 59) nm) n ((wearers8 (σ.2.1 59) nm).toNatClampNeg + 1)) else -1) σ := by
  have h6 := hR.2.1
  have hc6 := hR.2.2.2.1
  have go : ∀ {r σ1}, _ → Tw8 mX8_front (d + 3) [.int n, .int what] σ r σ1 := fun h => Tw8.ofR [.int n, .int what, U_, U_, U_] (by decide) (fun _ => rfl) (fun _ _ => Nat.le_of_ble_eq_true rfl) (g8_front_0 h)
  by_cases h1 : s8_isIn n 0 999 = 0
  · rw [if_pos h1]
    exact ⟨σ, go ⟨fun _ => ⟨rfl, rfl⟩, fun q => absurd h1 q⟩, PK.rf⟩
  rw [if_neg h1]
  by_cases h2 : s8_isIn what 0 1 = 0
  · rw [if_pos h2]
    exact ⟨σ, go ⟨fun q => absurd q h1, fun _ => ⟨fun q => absurd h2 q, fun _ => ⟨rfl, rfl⟩⟩⟩, PK.rf⟩
  rw [if_neg h2]
  have t1 := wearersT8 d (stA σ 60 (σ.2.1 59)) nm (fillR hR).1 h6
  rw [stA_s] at t1
  obtain ⟨s, hs, es⟩ := set8_n (fun k => decide (0 ≤ σ.2.1 59 (6 + k))) h6
  have es' : wearers8 (σ.2.1 59) nm = nI s := es
  have cs : (wearers8 (σ.2.1 59) nm).toNatClampNeg = s := by rw [es']; exact cl (by omega)
  rw [cs]
  have hsub : ∀ k, k < 64 → (nI k &&& (wearers8 (σ.2.1 59) nm ^^^ (-1))) = 0 → ∀ m, m < nm → hasB (nI k) m = true → ∃ c, c < nc ∧ σ.2.1 59 (6 + m) = nI c := by
    intro k hk q m hm hb
    rw [es'] at q
    exact wearers_has h6 hW hm (by rw [es']; exact sub64 ⟨k, hk⟩ ⟨s, hs⟩ q ⟨m, by omega⟩ hb)
  obtain ⟨a, τ, ⟨a1, a2⟩, a3⟩ := iter8 (A := Int32) (fun k a τ r σ1 => Rn8 mX8_front (d + 3) 37 [.int n, .int what, .int (wearers8 (σ.2.1 59) nm), .int a, .int (nI k)] (fun _ => []) τ r σ1) (fun k a τ => a = frontE (σ.2.1 59) nm (wearers8 (σ.2.1 59) nm) n k ∧ τ = stA σ 60 (σ.2.1 59)) (s + 1) (by
    rintro k a τ hk ⟨q0, rfl⟩
    refine ⟨_, _, ⟨rfl, rfl⟩, fun r σ1 h => ?_⟩
    rw [frontE_s, ← q0] at h
    have hex : ¬ wearers8 (σ.2.1 59) nm < nI k := by rw [es', i32_nlt]; exact nI_le (by omega) (by omega)
    refine g8_front_37 ⟨fun q => absurd q hex, fun _ => ⟨fun q => ?_, fun q => ?_⟩⟩
    · rw [if_neg (fun z => q z.1)] at h
      rw [nI_1]; exact h
    · have t2 := wideOfT8 (d + 1) (stA σ 60 (σ.2.1 59)) (nI k) (nc := nc) (fillR hR).1 h6 hc6 (fun m hm hb => by rw [stA_s]; exact hsub k (by omega) q m hm hb)
      rw [stA_s] at t2
      refine ⟨_, _, t2, fun z => ?_, fun z => ⟨fun y => ?_, fun y => ⟨fun x => ?_, fun x => ?_⟩⟩⟩
      · rw [if_neg (fun w => w.2.1 z)] at h
        rw [nI_1]; exact h
      · rw [if_pos ⟨q, z, Or.inl y⟩] at h
        rw [nI_1]; exact h
      · rw [if_neg (fun w => w.2.2.elim y (fun u => u x))] at h
        rw [nI_1]; exact h
      · rw [if_pos ⟨q, z, Or.inr x⟩] at h
        rw [nI_1]; exact h) 0 (-1) (stA σ 60 (σ.2.1 59)) (Nat.zero_le _) ⟨rfl, rfl⟩
  subst a1; subst a2
  generalize frontE (σ.2.1 59) nm (wearers8 (σ.2.1 59) nm) n (s + 1) = F at a3
  refine ⟨_, go ⟨fun q => absurd q h1, fun _ => ⟨fun _ => ⟨_, fillX (d + 1) σ, _, _, t1, a3 _ _ (g8_front_37 ⟨fun _ => ⟨fun q => ⟨fun w => ⟨?_, rfl⟩, fun w => ⟨?_, rfl⟩⟩, fun q => ⟨?_, rfl⟩⟩, fun q => absurd (by rw [es']; exact nI_lt (by omega) (by omega)) q⟩)⟩, fun q => absurd q h2⟩⟩, fillPK⟩
  · rw [if_pos q, if_neg w]
  · rw [if_pos q, if_pos w]
  · rw [if_neg q]
