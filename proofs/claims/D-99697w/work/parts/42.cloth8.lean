/-! the twin's public members: cloth; how ill each coat sits on each -/
set_option maxRecDepth 100000
def bz (set : Int32) (k : Nat) : Bool := decide (((set >>> (nI k &&& 31)) &&& 1) = 0)
def rowP (v : Nat → Int32) (set : Int32) : Nat → Int32 × Int32 := acc8 (fun c p => if bz set c then p else (p.1 + v (18 + c), s8_greater p.2 (v (12 + c)))) (0, 0)
theorem rowP_s (v : Nat → Int32) (set : Int32) (c : Nat) : rowP v set (c + 1) = if bz set c then rowP v set c else ((rowP v set c).1 + v (18 + c), s8_greater (rowP v set c).2 (v (12 + c))) := rfl
/-- how long a row of some is -/
def rowE (v : Nat → Int32) (bolt set : Int32) (nc : Nat) : Int32 := if (rowP v set nc).1 ≤ bolt then (rowP v set nc).2 else 1000000
theorem rowOfT8 (d : Nat) (σ : S8) (set : Int32) {nc : Nat} (hc : σ.1 49 = nI nc) (hc6 : nc ≤ 6) : Tw8 mX8_rowOf (d + 2) [.int set] σ (some (.int (rowE (σ.2.1 59) (σ.1 51) set nc))) σ := by
  obtain ⟨a, τ, ⟨a1, a2⟩, a3⟩ := iter8 (A := Int32 × Int32) (fun k a τ r σ1 => Rn8 mX8_rowOf (d + 2) 7 [.int set, .int a.1, .int a.2, .int (nI k)] (fun _ => []) τ r σ1) (fun k a τ => a = rowP (σ.2.1 59) set k ∧ τ = σ) nc (by
    rintro k a τ hk ⟨q0, rfl⟩
    refine ⟨_, _, ⟨rfl, rfl⟩, fun r σ1 h => ?_⟩
    rw [rowP_s, ← q0] at h
    refine g8_rowOf_7 ⟨fun q => absurd q (by rw [hc]; exact nI_ge hk (by omega)), fun _ => ⟨fun q => ⟨by rw [n18]; exact vin (by omega) (by decide), by rw [n12]; exact vin (by omega) (by decide), ?_⟩, fun q => ?_⟩⟩
    · have hb : ¬ bz set k = true := fun z => q (of_decide_eq_true z)
      rw [if_neg hb] at h
      rw [n18, n12, cl (by omega), cl (by omega), nI_1]
      exact h
    · have hb : bz set k = true := decide_eq_true q
      rw [if_pos hb] at h
      rw [nI_1]
      exact h) 0 (0, 0) σ (Nat.zero_le _) ⟨rfl, rfl⟩
  subst a1; subst a2
  exact Tw8.ofR [.int set, U_, U_, U_] (by decide) (fun _ => rfl) (fun _ _ => Nat.le_of_ble_eq_true rfl) (g8_rowOf_0 (a3 _ _ (g8_rowOf_7 ⟨fun _ => ⟨rfl, rfl⟩, fun q => absurd (by rw [hc]; exact nI_le (Nat.le_refl _) (by omega)) q⟩)))
theorem sh64 : ∀ n : Fin 7, (1 : Int32) <<< (nI n.val &&& 31) = nI (2 ^ n.val) := by decide +kernel
theorem and64 : ∀ (k s : Fin 64), 0 ≤ (nI s.val &&& (nI k.val ^^^ (-1))).toInt ∧ (nI s.val &&& (nI k.val ^^^ (-1))).toInt < 64 := by decide +kernel
/-- the rest of a set -/
def lessS (s k : Nat) : Nat := (nI s &&& (nI k ^^^ (-1))).toNatClampNeg
def clI (v : Nat → Int32) (bolt : Int32) (nc set : Nat) (L : Nat → Int32) : Nat → Nat → Int32 := acc8 (fun k L => if k = 0 then L else if (nI k &&& (nI set ^^^ (-1))) = 0 then upd L set (s8_lesser (L set) (rowE v bolt (nI k) nc + L (lessS set k))) else L) (upd L set 1000000)
theorem clI_s (v : Nat → Int32) (bolt : Int32) (nc set : Nat) (L : Nat → Int32) (k : Nat) : clI v bolt nc set L (k + 1) = if k = 0 then clI v bolt nc set L k else if (nI k &&& (nI set ^^^ (-1))) = 0 then upd (clI v bolt nc set L k) set (s8_lesser (clI v bolt nc set L k set) (rowE v bolt (nI k) nc + clI v bolt nc set L k (lessS set k))) else clI v bolt nc set L k := rfl
def clO (v : Nat → Int32) (bolt : Int32) (nc : Nat) (L : Nat → Int32) : Nat → Nat → Int32 := acc8 (fun set L => if set = 0 then L else clI v bolt nc set L (set + 1)) (upd L 0 0)
theorem clO_s (v : Nat → Int32) (bolt : Int32) (nc : Nat) (L : Nat → Int32) (set : Nat) : clO v bolt nc L (set + 1) = if set = 0 then clO v bolt nc L set else clI v bolt nc set (clO v bolt nc L set) (set + 1) := rfl
theorem clothM (d : Nat) (σ : S8) {nm nc : Nat} (hR : R8 σ nm nc) : M8 mX8_cloth (d + 3) [] σ (if clO (σ.2.1 59) (σ.1 51) nc (σ.2.1 68) (2 ^ nc) (2 ^ nc - 1) < 1000000 then clO (σ.2.1 59) (σ.1 51) nc (σ.2.1 68) (2 ^ nc) (2 ^ nc - 1) else -1) σ := by
  have hc6 := hR.2.2.2.1
  have hp : 2 ^ nc ≤ 64 := Nat.pow_le_pow_right (by decide) (show nc ≤ 6 from hc6)
  have hp1 : 0 < 2 ^ nc := Nat.pow_pos (by decide)
  have e2 : (1 : Int32) <<< (nI nc &&& 31) = nI (2 ^ nc) := sh64 ⟨nc, by omega⟩
  obtain ⟨_, τ, ⟨a1, a2⟩, a3⟩ := iter8 (A := Unit) (fun k _ τ r σ1 => Rn8 mX8_cloth (d + 3) 9 [.int (nI k), U_] (fun _ => []) τ r σ1) (fun k _ τ => kp [68] σ τ ∧ τ.2.1 68 = clO (σ.2.1 59) (σ.1 51) nc (σ.2.1 68) k ∧ 0 < k) (2 ^ nc) (by
    rintro s ⟨⟩ τ hs ⟨q1, q2, q3⟩
    have hss : vp_in (nI s) 64 := vin (by omega) (by decide)
    obtain ⟨_, τ1, ⟨b1, b2⟩, b3⟩ := iter8 (A := Unit) (fun k _ τ r σ1 => Rn8 mX8_cloth (d + 3) 30 [.int (nI s), .int (nI k)] (fun _ => []) τ r σ1) (fun k _ τ1 => kp [68] σ τ1 ∧ τ1.2.1 68 = clI (σ.2.1 59) (σ.1 51) nc s (clO (σ.2.1 59) (σ.1 51) nc (σ.2.1 68) s) k ∧ 0 < k) (s + 1) (by
      rintro k ⟨⟩ τ1 hk ⟨z1, z2, z3⟩
      have hex : ¬ nI s < nI k := by rw [i32_nlt]; exact nI_le (by omega) (by omega)
      by_cases hb : (nI k &&& (nI s ^^^ (-1))) = 0
      · have t := rowOfT8 d τ1 (nI k) (nc := nc) (by rw [z1.1]; exact hR.2.2.1) hc6
        rw [z1.1, z1.2.2 59 (by decide)] at t
        refine ⟨(), _, ⟨kp1 (j := 68) (g := upd (τ1.2.1 68) s (s8_lesser (τ1.2.1 68 s) (rowE (σ.2.1 59) (σ.1 51) (nI k) nc + τ1.2.1 68 (lessS s k)))) z1 (by decide), ?_, by omega⟩, fun r σ1 h => ?_⟩
        · show upA τ1.2.1 68 (upd (τ1.2.1 68) s (s8_lesser (τ1.2.1 68 s) (rowE (σ.2.1 59) (σ.1 51) (nI k) nc + τ1.2.1 68 (lessS s k)))) 68 = _
          rw [upA_s, clI_s, if_neg (by omega), if_pos hb, z2]
        · refine g8_cloth_30 ⟨fun q => absurd q hex, fun _ => ⟨fun q => absurd hb q, fun _ => ⟨hss, _, _, t, ?_, ?_⟩⟩⟩
          · have h9 := and64 ⟨k, by omega⟩ ⟨s, by omega⟩
            exact vp_in_iff.mpr h9
          · rw [nI_1, cl (n := s) (by omega)]
            exact h
      · refine ⟨(), τ1, ⟨z1, ?_, by omega⟩, fun r σ1 h => ?_⟩
        · rw [clI_s, if_neg (by omega), if_neg hb, z2]
        · refine g8_cloth_30 ⟨fun q => absurd q hex, fun _ => ⟨fun _ => ?_, fun q => absurd q hb⟩⟩
          rw [nI_1]
          exact h) 1 () (τ.1, upA τ.2.1 68 (upd (τ.2.1 68) s 1000000), τ.2.2.1, τ.2.2.2) (by omega) ⟨kp1 q1 (by decide), by
        show upA τ.2.1 68 (upd (τ.2.1 68) s 1000000) 68 = _
        rw [upA_s, q2]
        rfl, by decide⟩
    refine ⟨(), τ1, ⟨b1, ?_, by omega⟩, fun r σ1 h => ?_⟩
    · rw [clO_s, if_neg (by omega)]
      exact b2.1
    · refine g8_cloth_9 ⟨fun q => absurd q (by rw [q1.1, hR.2.2.1, e2]; exact nI_ge hs (by omega)), fun _ => ⟨hss, ?_⟩⟩
      rw [cl (n := s) (by omega)]
      refine b3 _ _ (g8_cloth_30 ⟨fun _ => ?_, fun q => absurd (nI_lt (by omega) (by omega)) q⟩)
      rw [nI_1]
      exact h) 1 () (stA σ 68 (upd (σ.2.1 68) 0 0)) hp1 ⟨stA_kp (by decide), by rw [stA_s]; rfl, by decide⟩
  have e3 : nI (2 ^ nc) - 1 = nI (2 ^ nc - 1) := pk_sub (a := 2 ^ nc) (b := 1) hp1
  refine ⟨τ, Tw8.ofR [U_, U_] (by decide) (fun _ => rfl) (fun _ _ => Nat.le_of_ble_eq_true rfl) (g8_cloth_0 (a3 _ _ (g8_cloth_9 ⟨fun _ => ⟨?_, ?_, rfl⟩, fun q => absurd ?_ q⟩))), PK.of a1 (by decide)⟩
  · rw [a1.1, hR.2.2.1, e2, e3]
    exact vin (by omega) (by decide)
  · rw [a1.1, hR.2.2.1, e2, e3, cl (by omega), a2.1]
  · rw [a1.1, hR.2.2.1, e2]
    exact nI_le (Nat.le_refl _) (by omega)
/-- how ill each sits on each, laid out -/
theorem n6m (m c : Nat) : ((6 : Int32) * nI m) + nI c = nI (6 * m + c) := by
  have : (6 : Int32) = nI 6 := rfl
  rw [this, pk_mul, nI_add]
theorem layIllsT8 (d : Nat) (σ : S8) {nm nc : Nat} (hR : R8 σ nm nc) : ∃ σ1, Tw8 mX8_layIlls (d + 4) [] σ none σ1 ∧ kp [16, 26, 60, 66] σ σ1 ∧ σ1.2.1 60 = σ.2.1 59 ∧ ∀ m c, m < nm → c < nc → σ1.2.1 66 (6 * m + c) = misE (env8 σ) (σ.2.1 59) m c := by
  have h6 := hR.2.1
  have hc6 := hR.2.2.2.1
  obtain ⟨_, τ, ⟨a1, a2, a4⟩, a3⟩ := iter8 (A := Unit) (fun k _ τ r σ1 => Rn8 mX8_layIlls (d + 4) 6 [.int (nI k), U_] (fun _ => []) τ r σ1) (fun k _ τ => kp [16, 26, 60, 66] σ τ ∧ τ.2.1 60 = σ.2.1 59 ∧ ∀ m c, m < k → c < nc → τ.2.1 66 (6 * m + c) = misE (env8 σ) (σ.2.1 59) m c) nm (by
    rintro m ⟨⟩ τ hm ⟨q1, q2, q3⟩
    obtain ⟨_, τ1, ⟨b1, b2, b4, b5⟩, b3⟩ := iter8 (A := Unit) (fun k _ τ r σ1 => Rn8 mX8_layIlls (d + 4) 16 [.int (nI m), .int (nI k)] (fun _ => []) τ r σ1) (fun k _ τ1 => kp [16, 26, 60, 66] σ τ1 ∧ τ1.2.1 60 = σ.2.1 59 ∧ (∀ a c, a < m → c < nc → τ1.2.1 66 (6 * a + c) = misE (env8 σ) (σ.2.1 59) a c) ∧ ∀ c, c < k → τ1.2.1 66 (6 * m + c) = misE (env8 σ) (σ.2.1 59) m c) nc (by
      rintro c ⟨⟩ τ1 hc ⟨z1, z2, z3, z4⟩
      obtain ⟨τ2, t1, t2⟩ := misfitT8 d τ1 m c (by omega) (by omega) (hR.kp z1 (by decide) (by decide)).2.2.2.2
      have e : misS τ1 (τ1.2.1 60) m c = misE (env8 σ) (σ.2.1 59) m c := by
        show misE (env8 τ1) (τ1.2.1 60) m c = _
        rw [env8_kp z1 (by decide) (by decide) (by decide), z2]
      rw [e] at t1
      have e66 : τ2.2.1 66 = τ1.2.1 66 := t2.2.2 66 (by decide)
      refine ⟨(), _, ⟨kp1 (j := 66) (g := upd (τ2.2.1 66) (6 * m + c) (misE (env8 σ) (σ.2.1 59) m c)) (z1.tr (t2.mo (by decide))) (by decide), ?_, fun a c' ha hc' => ?_, fun c' hc' => ?_⟩, fun r σ1 h => ?_⟩
      · show upA τ2.2.1 66 (upd (τ2.2.1 66) (6 * m + c) (misE (env8 σ) (σ.2.1 59) m c)) 60 = _
        rw [upA_n (by decide), t2.2.2 60 (by decide), z2]
      · show upA τ2.2.1 66 (upd (τ2.2.1 66) (6 * m + c) (misE (env8 σ) (σ.2.1 59) m c)) 66 (6 * a + c') = _
        rw [upA_s, upd_n (by omega), e66]
        exact z3 a c' ha hc'
      · show upA τ2.2.1 66 (upd (τ2.2.1 66) (6 * m + c) (misE (env8 σ) (σ.2.1 59) m c)) 66 (6 * m + c') = _
        rw [upA_s]
        by_cases e9 : c' = c
        · subst e9; rw [upd_s]
        · rw [upd_n (by omega), e66]; exact z4 c' (by omega)
      · refine g8_layIlls_16 ⟨fun q => absurd q (by rw [z1.1, hR.2.2.1]; exact nI_ge hc (by omega)), fun _ => ⟨_, _, t1, by rw [n6m]; exact vin (by omega) (by decide), ?_⟩⟩
        rw [n6m, cl (by omega), nI_1]
        exact h) 0 () τ (Nat.zero_le _) ⟨q1, q2, q3, fun c hc => absurd hc (by omega)⟩
    refine ⟨(), τ1, ⟨b1, b2, fun a c ha hc => ?_⟩, fun r σ1 h => ?_⟩
    · by_cases e : a = m
      · subst e; exact b5 c hc
      · exact b4 a c (by omega) hc
    · refine g8_layIlls_6 ⟨fun q => absurd q (by rw [q1.1, hR.1]; exact nI_ge hm (by omega)), fun _ => b3 _ _ (g8_layIlls_16 ⟨fun _ => ?_, fun q => absurd (by rw [b1.1, hR.2.2.1]; exact nI_le (Nat.le_refl _) (by omega)) q⟩)⟩
      rw [nI_1]
      exact h) 0 () (stA σ 60 (σ.2.1 59)) (Nat.zero_le _) ⟨stA_kp (by decide), stA_s, fun m c hm => absurd hm (by omega)⟩
  exact ⟨τ, Tw8.ofR [U_, U_] (by decide) (fun _ => rfl) (fun _ _ => Nat.le_of_ble_eq_true rfl) (g8_layIlls_0 ⟨_, fillX (d + 2) σ, a3 _ _ (g8_layIlls_6 ⟨fun _ => ⟨rfl, rfl⟩, fun q => absurd (by rw [a1.1, hR.1]; exact nI_le (Nat.le_refl _) (by omega)) q⟩)⟩), a1, a2, a4⟩
def freeE (v : Nat → Int32) (nm nc : Nat) : Int32 := set8 (fun c => decide (¬ 0 ≤ wearer8 v (nI c) nm)) nc
theorem freeCoatsT8 (d : Nat) (σ : S8) {nm nc : Nat} (hm : σ.1 48 = nI nm) (h6 : nm ≤ 6) (hc : σ.1 49 = nI nc) (hc6 : nc ≤ 6) : Tw8 mX8_freeCoats (d + 2) [] σ (some (.int (freeE (σ.2.1 60) nm nc))) σ := by
  obtain ⟨a, τ, ⟨a1, a2⟩, a3⟩ := iter8 (A := Int32) (fun k a τ r σ1 => Rn8 mX8_freeCoats (d + 2) 4 [.int a, .int (nI k)] (fun _ => []) τ r σ1) (fun k a τ => a = freeE (σ.2.1 60) nm k ∧ τ = σ) nc (by
    rintro k a τ hk ⟨rfl, rfl⟩
    refine ⟨_, _, ⟨rfl, rfl⟩, fun r σ1 h => ?_⟩
    refine g8_freeCoats_4 ⟨fun q => absurd q (by rw [hc]; exact nI_ge hk (by omega)), fun _ => ⟨_, _, wearerT8 d τ (nI k) nm hm h6, ?_⟩⟩
    rw [tr8n, bi_if, nI_1]
    exact h) 0 0 σ (Nat.zero_le _) ⟨rfl, rfl⟩
  subst a1; subst a2
  exact Tw8.ofR [U_, U_] (by decide) (fun _ => rfl) (fun _ _ => Nat.le_of_ble_eq_true rfl) (g8_freeCoats_0 (a3 _ _ (g8_freeCoats_4 ⟨fun _ => ⟨rfl, rfl⟩, fun q => absurd (by rw [hc]; exact nI_le (Nat.le_refl _) (by omega)) q⟩)))
