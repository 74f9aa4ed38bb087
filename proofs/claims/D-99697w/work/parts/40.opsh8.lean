/-! the twin's public members: wings, sewing -/
set_option maxRecDepth 100000
/-- the first of a set, as a set -/
def fst8 (may : Int32) : Int32 := acc8 (fun j f => if hasB may (5 - j) then 1 <<< (nI (5 - j) &&& 31) else f) 0 6
theorem fstLoop (d : Nat) (σ σ1 : S8) (r : Option Value) (w may : Int32) (h : Rn8 mX8_wings (d + 3) 25 [.int w, .int may, .int (fst8 may), .int (-1), U_, U_, U_] (fun _ => []) σ r σ1) : Rn8 mX8_wings (d + 3) 25 [.int w, .int may, .int 0, .int 5, U_, U_, U_] (fun _ => []) σ r σ1 := by
  have st : ∀ (j : Nat) (k k2 : Int32), j < 6 → k = nI (5 - j) → k + (-1) = k2 → Rn8 mX8_wings (d + 3) 25 [.int w, .int may, .int (acc8 (fun j f => if hasB may (5 - j) then 1 <<< (nI (5 - j) &&& 31) else f) 0 (j + 1)), .int k2, U_, U_, U_] (fun _ => []) σ r σ1 → Rn8 mX8_wings (d + 3) 25 [.int w, .int may, .int (acc8 (fun j f => if hasB may (5 - j) then 1 <<< (nI (5 - j) &&& 31) else f) 0 j), .int k, U_, U_, U_] (fun _ => []) σ r σ1 := by
    intro j k k2 hj hk hk2 h
    subst hk
    refine g8_wings_25 ⟨fun q => absurd q (nI_nneg (by omega)), fun _ => ?_⟩
    rw [hk2]
    have e : (if ((may >>> (nI (5 - j) &&& 31)) &&& 1) = 1 then (1 : Int32) <<< (nI (5 - j) &&& 31) else acc8 (fun j f => if hasB may (5 - j) then 1 <<< (nI (5 - j) &&& 31) else f) 0 j) = acc8 (fun j f => if hasB may (5 - j) then 1 <<< (nI (5 - j) &&& 31) else f) 0 (j + 1) := by
      show _ = if hasB may (5 - j) then _ else _
      unfold hasB
      simp only [decide_eq_true_eq]
    rw [e]
    exact h
  exact st 0 5 4 (by decide) rfl (by decide) (st 1 4 3 (by decide) rfl (by decide) (st 2 3 2 (by decide) rfl (by decide) (st 3 2 1 (by decide) rfl (by decide) (st 4 1 0 (by decide) rfl (by decide) (st 5 0 (-1) (by decide) rfl (by decide) h)))))
/-- how unlike the wings are -/
def ownW (v : Nat → Int32) (nm : Nat) (may : Int32) (k : Nat) : Int32 := s8_plain (wideE v (nI k) nm - wideE v (may &&& (nI k ^^^ (-1))) nm)
def wingE (v : Nat → Int32) (nm : Nat) (may : Int32) : Nat → Int32 × Int32 := acc8 (fun k p => if (nI k &&& (may ^^^ (-1))) = 0 ∧ (nI k &&& fst8 may) = fst8 may ∧ ¬ p.2 < ownW v nm may k ∧ (¬ ownW v nm may k = p.2 ∨ nI k < p.1) then (nI k, ownW v nm may k) else p) (may, wideE v may nm)
theorem wingE_s (v : Nat → Int32) (nm : Nat) (may : Int32) (k : Nat) : wingE v nm may (k + 1) = if (nI k &&& (may ^^^ (-1))) = 0 ∧ (nI k &&& fst8 may) = fst8 may ∧ ¬ (wingE v nm may k).2 < ownW v nm may k ∧ (¬ ownW v nm may k = (wingE v nm may k).2 ∨ nI k < (wingE v nm may k).1) then (nI k, ownW v nm may k) else wingE v nm may k := rfl
theorem wingsM (d : Nat) (σ : S8) (what : Int32) {nm nc : Nat} (hR : R8 σ nm nc) (hW : okW (σ.2.1 59) nm nc) :
    M8 mX8_wings (d + 3) [.int what] σ (if s8_isIn what 0 1 = 0 then -1 else if what = 0 then (wingE (σ.2.1 59) nm (wearers8 (σ.2.1 59) nm) ((wearers8 (σ.2.1 59) nm).toNatClampNeg + 1)).2 else (wingE (σ.2.1 59) nm (wearers8 (σ.2.1 59) nm) ((wearers8 (σ.2.1 59) nm).toNatClampNeg + 1)).1) σ := by
  have h6 := hR.2.1
  have hc6 := hR.2.2.2.1
  have go : ∀ {r σ1}, _ → Tw8 mX8_wings (d + 3) [.int what] σ r σ1 := fun h => Tw8.ofR [.int what, U_, U_, U_, U_, U_, U_] (by decide) (fun _ => rfl) (fun _ _ => Nat.le_of_ble_eq_true rfl) (g8_wings_0 h)
  by_cases h1 : s8_isIn what 0 1 = 0
  · rw [if_pos h1]
    exact ⟨σ, go ⟨fun q => absurd h1 q, fun _ => ⟨rfl, rfl⟩⟩, PK.rf⟩
  rw [if_neg h1]
  have t1 := wearersT8 d (stA σ 60 (σ.2.1 59)) nm (fillR hR).1 h6
  rw [stA_s] at t1
  obtain ⟨s, hs, es⟩ := set8_n (fun k => decide (0 ≤ σ.2.1 59 (6 + k))) h6
  have es' : wearers8 (σ.2.1 59) nm = nI s := es
  have cs : (wearers8 (σ.2.1 59) nm).toNatClampNeg = s := by rw [es']; exact cl (by omega)
  rw [cs]
  have hall : ∀ m, m < nm → hasB (wearers8 (σ.2.1 59) nm) m = true → ∃ c, c < nc ∧ σ.2.1 59 (6 + m) = nI c := fun m hm hb => wearers_has h6 hW hm hb
  have t0 := wideOfT8 (d + 1) (stA σ 60 (σ.2.1 59)) (wearers8 (σ.2.1 59) nm) (nc := nc) (fillR hR).1 h6 hc6 (fun m hm hb => by rw [stA_s]; exact hall m hm hb)
  rw [stA_s] at t0
  obtain ⟨a, τ, ⟨a1, a2⟩, a3⟩ := iter8 (A := Int32 × Int32) (fun k a τ r σ1 => Rn8 mX8_wings (d + 3) 68 [.int what, .int (wearers8 (σ.2.1 59) nm), .int (fst8 (wearers8 (σ.2.1 59) nm)), .int a.1, .int a.2, .int (nI k), U_] (fun _ => []) τ r σ1) (fun k a τ => a = wingE (σ.2.1 59) nm (wearers8 (σ.2.1 59) nm) k ∧ τ = stA σ 60 (σ.2.1 59)) (s + 1) (by
    rintro k a τ hk ⟨q0, rfl⟩
    refine ⟨_, _, ⟨rfl, rfl⟩, fun r σ1 h => ?_⟩
    rw [wingE_s, ← q0] at h
    have hex : ¬ wearers8 (σ.2.1 59) nm < nI k := by rw [es', i32_nlt]; exact nI_le (by omega) (by omega)
    refine g8_wings_68 ⟨fun q => absurd q hex, fun _ => ⟨fun q => ?_, fun q => ⟨fun y => ?_, fun y => ?_⟩⟩⟩
    · rw [if_neg (fun z => q z.1)] at h
      rw [nI_1]; exact h
    · have t2 := wideOfT8 (d + 1) (stA σ 60 (σ.2.1 59)) (nI k) (nc := nc) (fillR hR).1 h6 hc6 (fun m hm hb => by
        rw [stA_s]
        refine hall m hm ?_
        rw [es'] at q ⊢
        exact sub64 ⟨k, by omega⟩ ⟨s, hs⟩ q ⟨m, by omega⟩ hb)
      have t3 := wideOfT8 (d + 1) (stA σ 60 (σ.2.1 59)) (wearers8 (σ.2.1 59) nm &&& (nI k ^^^ (-1))) (nc := nc) (fillR hR).1 h6 hc6 (fun m hm hb => by
        rw [stA_s]
        refine hall m hm ?_
        rw [es'] at hb ⊢
        exact dif64 ⟨k, by omega⟩ ⟨s, hs⟩ ⟨m, by omega⟩ hb)
      rw [stA_s] at t2 t3
      have eo : s8_plain (wideE (σ.2.1 59) (nI k) nm - wideE (σ.2.1 59) (wearers8 (σ.2.1 59) nm &&& (nI k ^^^ (-1))) nm) = ownW (σ.2.1 59) nm (wearers8 (σ.2.1 59) nm) k := rfl
      refine ⟨_, _, t2, _, _, t3, fun z => ?_, fun z => ⟨fun x => ?_, fun x => ⟨fun w => ?_, fun w => ?_⟩⟩⟩
      · rw [eo] at z
        rw [if_neg (fun u => u.2.2.1 z)] at h
        rw [nI_1]; exact h
      · rw [eo] at z x ⊢
        rw [if_pos ⟨q, y, z, Or.inl x⟩] at h
        rw [nI_1]; exact h
      · rw [eo] at z x ⊢
        rw [if_pos ⟨q, y, z, Or.inr w⟩] at h
        rw [nI_1]; exact h
      · rw [eo] at z x
        rw [if_neg (fun u => u.2.2.2.elim (fun v => v x) (fun v => w v))] at h
        rw [nI_1]; exact h
    · rw [if_neg (fun z => y z.2.1)] at h
      rw [nI_1]; exact h) 0 (wearers8 (σ.2.1 59) nm, wideE (σ.2.1 59) (wearers8 (σ.2.1 59) nm) nm) (stA σ 60 (σ.2.1 59)) (Nat.zero_le _) ⟨rfl, rfl⟩
  subst a1; subst a2
  refine ⟨_, go ⟨fun _ => ⟨_, fillX (d + 1) σ, _, _, t1, fstLoop d _ _ _ _ _ (g8_wings_25 ⟨fun _ => ⟨_, _, t0, a3 _ _ (g8_wings_68 ⟨fun _ => ⟨?_, rfl⟩, fun q => absurd (by rw [es']; exact nI_lt (by omega) (by omega)) q⟩)⟩, fun q => absurd (by decide) q⟩)⟩, fun q => absurd q h1⟩, fillPK⟩
  by_cases hw : what = 0
  · rw [if_pos hw]
  · rw [if_neg hw]
/-! sewing -/
def rg (x : Int32) : Prop := ∃ n : Nat, n ≤ 99 ∧ x = nI n
def sewV (v : Nat → Int32) (c : Nat) (h t : Int32) : Nat → Int32 := upd (upd v (12 + c) (v (12 + c) - h)) (18 + c) (v (18 + c) - t)
def sewB (e : E8) (v : Nat → Int32) (m c : Nat) (h t : Int32) : Bool := fitE e (sewV v c h t) m c
theorem isSewnT8 (d : Nat) (σ : S8) (h t : Int32) {nm nc m c : Nat} (hR : R8 σ nm nc) (hm : m < 6) (hc : c < 6) : ∃ σ1, Tw8 mX8_isSewn (d + 4) [.int (nI c), .int (nI m), .int h, .int t] σ (some (.int (bi (sewB (env8 σ) (σ.2.1 59) m c h t)))) σ1 ∧ kp [16, 26, 60] σ σ1 := by
  have c12 : (12 + nI c : Int32).toNatClampNeg = 12 + c := by rw [n12]; exact cl (by omega)
  have c18 : (18 + nI c : Int32).toNatClampNeg = 18 + c := by rw [n18]; exact cl (by omega)
  have k1 : kp [16, 26, 60] σ (stA σ 60 (σ.2.1 59)) := stA_kp (by decide)
  have k2 : kp [16, 26, 60] σ ((stA σ 60 (σ.2.1 59)).1, upA (stA σ 60 (σ.2.1 59)).2.1 60 (sewV (σ.2.1 59) c h t), (stA σ 60 (σ.2.1 59)).2.2.1, (stA σ 60 (σ.2.1 59)).2.2.2) := kp1 k1 (by decide)
  obtain ⟨σ1, q1, q2⟩ := misfitT8 d _ m c hm hc (hR.kp k2 (by decide) (by decide)).2.2.2.2
  refine ⟨σ1, Tw8.ofR [.int (nI c), .int (nI m), .int h, .int t] (by decide) (fun _ => rfl) (fun _ _ => Nat.le_of_ble_eq_true rfl) (g8_isSewn_0 ⟨_, fillX (d + 2) σ, by rw [n12]; exact vin (by omega) (by decide), by rw [n18]; exact vin (by omega) (by decide), misE (env8 σ) (sewV (σ.2.1 59) c h t) m c, σ1, ?_, ?_, rfl⟩), k2.tr (q2.mo (by decide))⟩
  · rw [c12, c18, stA_s, upd_n (show 18 + c ≠ 12 + c by omega)]
    have e : misS ((stA σ 60 (σ.2.1 59)).1, upA (stA σ 60 (σ.2.1 59)).2.1 60 (sewV (σ.2.1 59) c h t), (stA σ 60 (σ.2.1 59)).2.2.1, (stA σ 60 (σ.2.1 59)).2.2.2) (upA (stA σ 60 (σ.2.1 59)).2.1 60 (sewV (σ.2.1 59) c h t) 60) m c = misE (env8 σ) (sewV (σ.2.1 59) c h t) m c := by
      rw [upA_s]
      show misE (env8 ((stA σ 60 (σ.2.1 59)).1, upA (stA σ 60 (σ.2.1 59)).2.1 60 (sewV (σ.2.1 59) c h t), (stA σ 60 (σ.2.1 59)).2.2.1, (stA σ 60 (σ.2.1 59)).2.2.2)) (sewV (σ.2.1 59) c h t) m c = _
      rw [env8_kp k2 (by decide) (by decide) (by decide)]
    rw [← e]
    exact q1
  · rw [bi_ifn, q2.1, k2.1]
    congr 3
    unfold sewB fitE env8
    simp only [i32_nlt]
