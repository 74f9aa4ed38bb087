/-! the twin's public members: what two men would reach for -/
set_option maxRecDepth 100000
theorem nI_ne {a b : Nat} (ha : a < 1000000) (hb : b < 1000000) (h : a ≠ b) : ¬ nI a = nI b := fun e => h (by
  have := congrArg Int32.toNatClampNeg e
  rwa [cl ha, cl hb] at this)
def rcE (ill : Nat → Nat → Int32) (m c o : Nat) : Int32 := if c = o then 1000 else ill m c
theorem reachedT8 (d : Nat) (σ : S8) (ill : Nat → Nat → Int32) {m c o nm nc : Nat} (h6 : nm ≤ 6) (hc6 : nc ≤ 6) (hm : m < nm) (hc : c < nc) (ho : o < nc) (hi : ∀ m c, m < nm → c < nc → σ.2.1 66 (6 * m + c) = ill m c) : Tw8 mX8_reached (d + 1) [.int (nI m), .int (nI c), .int (nI o)] σ (some (.int (rcE ill m c o))) σ := by
  refine Tw8.ofR [.int (nI m), .int (nI c), .int (nI o)] (by decide) (fun _ => rfl) (fun _ _ => Nat.le_of_ble_eq_true rfl) (g8_reached_0 ?_)
  unfold rcE
  by_cases e : c = o
  · rw [if_pos e]
    exact ⟨fun q => absurd (by rw [e]) q, fun _ => ⟨rfl, rfl⟩⟩
  · rw [if_neg e]
    exact ⟨fun q => ⟨by rw [n6m]; exact vin (by omega) (by decide), by rw [n6m, cl (by omega), hi m c hm hc], rfl⟩, fun q => absurd q (nI_ne (by omega) (by omega) e)⟩
def restS (ill : Nat → Nat → Int32) (m n c o : Nat) (free : Int32) (k : Nat) : Bool := bz free k || (decide (¬ rcE ill m k o < rcE ill m c o) && decide (¬ rcE ill n k c < rcE ill n o c))
def restE (ill : Nat → Nat → Int32) (m n c o : Nat) (free : Int32) : Nat → Bool := acc8 (fun k ok => ok && restS ill m n c o free k) true
theorem restE_s (ill : Nat → Nat → Int32) (m n c o : Nat) (free : Int32) (k : Nat) : restE ill m n c o free (k + 1) = (restE ill m n c o free k && restS ill m n c o free k) := rfl
theorem isRestT8 (d : Nat) (σ : S8) (free : Int32) (ill : Nat → Nat → Int32) {m n c o nm nc : Nat} (h6 : nm ≤ 6) (hn9 : σ.1 49 = nI nc) (hc6 : nc ≤ 6) (hm : m < nm) (hn : n < nm) (hc : c < nc) (ho : o < nc) (hi : ∀ m c, m < nm → c < nc → σ.2.1 66 (6 * m + c) = ill m c) : Tw8 mX8_isRest (d + 2) [.int (nI m), .int (nI n), .int (nI c), .int (nI o), .int free] σ (some (.int (bi (restE ill m n c o free nc)))) σ := by
  obtain ⟨a, τ, ⟨a1, a2⟩, a3⟩ := iter8 (A := Int32) (fun k a τ r σ1 => Rn8 mX8_isRest (d + 2) 6 [.int (nI m), .int (nI n), .int (nI c), .int (nI o), .int free, .int a, .int (nI k)] (fun _ => []) τ r σ1) (fun k a τ => a = bi (restE ill m n c o free k) ∧ τ = σ) nc (by
    rintro k a τ hk ⟨p0, rfl⟩
    refine ⟨_, _, ⟨rfl, rfl⟩, fun r σ1 h => ?_⟩
    rw [restE_s] at h
    unfold restS at h
    refine g8_isRest_6 ⟨fun q => absurd q (by rw [hn9]; exact nI_ge hk (by omega)), fun _ => ⟨fun q => ?_, fun q => ?_⟩⟩
    · have eb : bz free k = false := decide_eq_false q
      rw [eb, Bool.false_or] at h
      refine ⟨fun z => ?_, fun z => ?_⟩
      · rw [p0, bi_0] at z
        rw [z, Bool.false_and] at h
        rw [nI_1]; exact h
      · rw [p0, bi_0, Bool.not_eq_false] at z
        rw [z, Bool.true_and] at h
        refine ⟨_, _, reachedT8 d τ ill h6 hc6 hm hk ho hi, _, _, reachedT8 d τ ill h6 hc6 hm hc ho hi, fun y => ?_, fun y => ⟨_, _, reachedT8 d τ ill h6 hc6 hn hk hc hi, _, _, reachedT8 d τ ill h6 hc6 hn ho hc hi, ?_⟩⟩
        · rw [decide_eq_false (not_not_intro y), Bool.false_and] at h
          rw [nI_1]; exact h
        · rw [decide_eq_true y, Bool.true_and] at h
          rw [bi_ifn, nI_1]; exact h
    · have eb : bz free k = true := decide_eq_true q
      rw [eb, Bool.true_or, Bool.and_true, ← p0] at h
      rw [nI_1]; exact h) 0 1 σ (Nat.zero_le _) ⟨rfl, rfl⟩
  subst a1; subst a2
  exact Tw8.ofR [.int (nI m), .int (nI n), .int (nI c), .int (nI o), .int free, U_, U_] (by decide) (fun _ => rfl) (fun _ _ => Nat.le_of_ble_eq_true rfl) (g8_isRest_0 (a3 _ _ (g8_isRest_6 ⟨fun _ => ⟨isB_bi _, rfl, rfl⟩, fun q => absurd (by rw [hn9]; exact nI_le (Nat.le_refl _) (by omega)) q⟩)))
/-- all but the lies is as in σ; the lies are x many, and L -/
def kL (σ : S8) (x : Int32) (L : Nat → Int32) (τ : S8) : Prop := τ.1 67 = x ∧ τ.2.1 64 = L ∧ (∀ j, j ≠ 67 → τ.1 j = σ.1 j) ∧ τ.2.2 = σ.2.2 ∧ ∀ j, j ∉ [16, 26, 60, 64, 65, 66] → τ.2.1 j = σ.2.1 j
theorem kL.PK {σ τ : S8} {x : Int32} {L : Nat → Int32} (h : kL σ x L τ) : PK (upd σ.1 67 x, upA σ.2.1 64 L, σ.2.2) τ := by
  refine ⟨fun j hj => ?_, fun j hj => ?_⟩
  · show τ.1 j = upd σ.1 67 x j
    by_cases e : j = 67
    · rw [e, upd_s]; exact h.1
    · rw [upd_n e]; exact h.2.2.1 j e
  · show τ.2.1 j = upA σ.2.1 64 L j
    by_cases e : j = 64
    · rw [e, upA_s]; exact h.2.1
    · rw [upA_n e]
      refine h.2.2.2.2 j ?_
      have : ∀ j ∈ pA, j ≠ 64 → j ∉ [16, 26, 60, 64, 65, 66] := by decide
      exact this j hj e
theorem kL.kp {A : List Nat} {σ τ τ1 : S8} {x : Int32} {L : Nat → Int32} (h : kL σ x L τ) (k : kp A τ τ1) (hA : ∀ j ∈ A, j ∈ [16, 26, 60, 65, 66]) : kL σ x L τ1 := by
  have n64 : 64 ∉ A := fun q => absurd (hA 64 q) (by decide)
  refine ⟨by rw [k.1]; exact h.1, by rw [k.2.2 64 n64]; exact h.2.1, fun j hj => by rw [k.1]; exact h.2.2.1 j hj, by rw [k.2.1]; exact h.2.2.2.1, fun j hj => ?_⟩
  have : j ∉ A := fun q => hj (by
    have := hA j q
    simp only [List.mem_cons, List.not_mem_nil, or_false] at this ⊢
    omega)
  rw [k.2.2 j this]
  exact h.2.2.2.2 j hj
abbrev RP8 : Type := Int32 × Int32 × (Nat → Int32)
/-- a pair that may be, as it is found -/
def rpS (c o : Nat) (ok : Bool) (p : RP8) : RP8 := if ok then (p.1 + 1, if p.1 = 0 then (2, upd (upd p.2.2 0 (nI c)) 1 (nI o)) else p.2) else p
def rpOk (ill : Nat → Nat → Int32) (m n : Nat) (free : Int32) (nc c o : Nat) : Bool := !bz free c && (!bz free o && restE ill m n c o free nc)
def rpI (ill : Nat → Nat → Int32) (m n : Nat) (free : Int32) (nc c : Nat) (p : RP8) : Nat → RP8 := acc8 (fun o p => rpS c o (rpOk ill m n free nc c o) p) p
theorem rpI_s (ill : Nat → Nat → Int32) (m n : Nat) (free : Int32) (nc c : Nat) (p : RP8) (o : Nat) : rpI ill m n free nc c p (o + 1) = rpS c o (rpOk ill m n free nc c o) (rpI ill m n free nc c p o) := rfl
def rpO (ill : Nat → Nat → Int32) (m n : Nat) (free : Int32) (nc : Nat) (p : RP8) : Nat → RP8 := acc8 (fun c p => rpI ill m n free nc c p nc) p
theorem rpO_s (ill : Nat → Nat → Int32) (m n : Nat) (free : Int32) (nc : Nat) (p : RP8) (c : Nat) : rpO ill m n free nc p (c + 1) = rpI ill m n free nc c (rpO ill m n free nc p c) nc := rfl
def reachE (σ : S8) (nm nc : Nat) (m n : Int32) : RP8 :=
  if idx m nm && idx n nm && decide (m ≠ n) && decide (freeE (σ.2.1 59) nm nc ≠ 0) then rpO (misE (env8 σ) (σ.2.1 59)) m.toNatClampNeg n.toNatClampNeg (freeE (σ.2.1 59) nm nc) nc (0, 0, σ.2.1 64) nc else (-1, 0, σ.2.1 64)
theorem reachM (d : Nat) (σ : S8) (m n : Int32) {nm nc : Nat} (hR : R8 σ nm nc) : M8 mX8_reach (d + 5) [.int m, .int n] σ (reachE σ nm nc m n).1 (upd σ.1 67 (reachE σ nm nc m n).2.1, upA σ.2.1 64 (reachE σ nm nc m n).2.2, σ.2.2) := by
  have h6 := hR.2.1
  have hc6 := hR.2.2.2.1
  have hR0 : R8 (upd σ.1 67 0, σ.2.1, σ.2.2.1, σ.2.2.2) nm nc := hR
  obtain ⟨σ1, t1, t2, t3, t4⟩ := layIllsT8 d (upd σ.1 67 0, σ.2.1, σ.2.2.1, σ.2.2.2) hR0
  have hR1 : R8 σ1 nm nc := hR0.kp t2 (by decide) (by decide)
  have l0 : kL σ 0 (σ.2.1 64) (upd σ.1 67 0, σ.2.1, σ.2.2.1, σ.2.2.2) := ⟨upd_s (f := σ.1) (k := 67) (x := 0), rfl, fun j hj => upd_n hj, rfl, fun _ _ => rfl⟩
  have l1 : kL σ 0 (σ.2.1 64) σ1 := l0.kp t2 (by decide)
  have tf := freeCoatsT8 (d + 2) σ1 hR1.1 h6 hR1.2.2.1 hc6
  rw [t3] at tf
  have go : ∀ {r σ2}, _ → Tw8 mX8_reach (d + 5) [.int m, .int n] σ r σ2 := fun h => Tw8.ofR [.int m, .int n, U_, U_, U_, U_] (by decide) (fun _ => rfl) (fun _ _ => Nat.le_of_ble_eq_true rfl) (g8_reach_0 ⟨_, t1, _, _, tf, _, _, isManT8 (d + 2) σ1 m hR1, h⟩)
  unfold reachE
  cases h1 : idx m nm
  · rw [h1] at go
    exact ⟨σ1, go ⟨fun _ => ⟨rfl, rfl⟩, fun q => absurd rfl q⟩, l1.PK⟩
  cases h2 : idx n nm
  · rw [h1] at go
    exact ⟨σ1, go ⟨fun q => absurd q (by decide), fun _ => ⟨_, _, isManT8 (d + 2) σ1 n hR1, fun _ => ⟨rfl, rfl⟩, fun q => absurd (by rw [h2]; rfl) q⟩⟩, l1.PK⟩
  by_cases h3 : m = n
  · rw [h1] at go
    rw [decide_eq_false (not_not_intro h3)]
    exact ⟨σ1, go ⟨fun q => absurd q (by decide), fun _ => ⟨_, _, isManT8 (d + 2) σ1 n hR1, fun _ => ⟨rfl, rfl⟩, fun q => ⟨fun _ => ⟨rfl, rfl⟩, fun q => absurd h3 q⟩⟩⟩, l1.PK⟩
  by_cases h4 : freeE (σ.2.1 59) nm nc = 0
  · rw [h1] at go
    rw [decide_eq_false (not_not_intro h4), Bool.and_false]
    exact ⟨σ1, go ⟨fun q => absurd q (by decide), fun _ => ⟨_, _, isManT8 (d + 2) σ1 n hR1, fun _ => ⟨rfl, rfl⟩, fun q => ⟨fun q => absurd q h3, fun _ => ⟨fun q => absurd h4 q, fun _ => ⟨rfl, rfl⟩⟩⟩⟩⟩, l1.PK⟩
  rw [decide_eq_true h3, decide_eq_true h4]
  rw [h1] at go
  have hn2 := h2
  obtain ⟨m', hm, em⟩ := idx_of h1 (by omega)
  obtain ⟨n', hn, en⟩ := idx_of h2 (by omega)
  have cm : m.toNatClampNeg = m' := by rw [em]; exact cl (by omega)
  have cn : n.toNatClampNeg = n' := by rw [en]; exact cl (by omega)
  show M8 mX8_reach (d + 5) [.int m, .int n] σ (rpO (misE (env8 σ) (σ.2.1 59)) m.toNatClampNeg n.toNatClampNeg (freeE (σ.2.1 59) nm nc) nc (0, 0, σ.2.1 64) nc).1 (upd σ.1 67 (rpO (misE (env8 σ) (σ.2.1 59)) m.toNatClampNeg n.toNatClampNeg (freeE (σ.2.1 59) nm nc) nc (0, 0, σ.2.1 64) nc).2.1, upA σ.2.1 64 (rpO (misE (env8 σ) (σ.2.1 59)) m.toNatClampNeg n.toNatClampNeg (freeE (σ.2.1 59) nm nc) nc (0, 0, σ.2.1 64) nc).2.2, σ.2.2)
  rw [cm, cn]
  have t5 : ∀ m c, m < nm → c < nc → σ1.2.1 66 (6 * m + c) = misE (env8 σ) (σ.2.1 59) m c := t4
  generalize misE (env8 σ) (σ.2.1 59) = ill at t5 ⊢
  generalize freeE (σ.2.1 59) nm nc = free at *
  have key : ∃ p : RP8, ∃ τ : S8, (p = rpO ill m' n' free nc (0, 0, σ.2.1 64) nc ∧ kL σ p.2.1 p.2.2 τ ∧ τ.2.1 66 = σ1.2.1 66) ∧ ∀ r σ2, Rn8 mX8_reach (d + 5) 47 [.int m, .int n, .int free, .int p.1, .int (nI nc), U_] (fun _ => []) τ r σ2 → Rn8 mX8_reach (d + 5) 47 [.int m, .int n, .int free, .int 0, .int (nI 0), U_] (fun _ => []) σ1 r σ2 :=
    iter8 (A := RP8) (fun c p τ r σ2 => Rn8 mX8_reach (d + 5) 47 [.int m, .int n, .int free, .int p.1, .int (nI c), U_] (fun _ => []) τ r σ2) (fun c p τ => p = rpO ill m' n' free nc (0, 0, σ.2.1 64) c ∧ kL σ p.2.1 p.2.2 τ ∧ τ.2.1 66 = σ1.2.1 66) nc (by
    rintro c p τ hc ⟨z0, z1, z2⟩
    have key2 : ∃ p1 : RP8, ∃ τ1 : S8, (p1 = rpI ill m' n' free nc c p nc ∧ kL σ p1.2.1 p1.2.2 τ1 ∧ τ1.2.1 66 = σ1.2.1 66) ∧ ∀ r σ2, Rn8 mX8_reach (d + 5) 59 [.int m, .int n, .int free, .int p1.1, .int (nI c), .int (nI nc)] (fun _ => []) τ1 r σ2 → Rn8 mX8_reach (d + 5) 59 [.int m, .int n, .int free, .int p.1, .int (nI c), .int (nI 0)] (fun _ => []) τ r σ2 :=
      iter8 (A := RP8) (fun o p τ r σ2 => Rn8 mX8_reach (d + 5) 59 [.int m, .int n, .int free, .int p.1, .int (nI c), .int (nI o)] (fun _ => []) τ r σ2) (fun o p1 τ1 => p1 = rpI ill m' n' free nc c p o ∧ kL σ p1.2.1 p1.2.2 τ1 ∧ τ1.2.1 66 = σ1.2.1 66) nc (by
      rintro o p1 τ1 ho ⟨y0, y1, y2⟩
      have e49 : τ1.1 49 = nI nc := by rw [y1.2.2.1 49 (by decide)]; exact hR.2.2.1
      have hex : ¬ τ1.1 49 ≤ nI o := by rw [e49]; exact nI_ge ho (by omega)
      have tr := isRestT8 (d + 2) τ1 free ill (m := m') (n := n') (c := c) (o := o) h6 e49 hc6 hm hn hc ho (fun a b ha hb => by rw [y2]; exact t5 a b ha hb)
      rw [← em, ← en] at tr
      cases hok : rpOk ill m' n' free nc c o
      · refine ⟨p1, τ1, ⟨?_, y1, y2⟩, fun r σ2 h => ?_⟩
        · rw [rpI_s, hok, ← y0]; rfl
        · refine g8_reach_59 ⟨fun q => absurd q hex, fun _ => ⟨fun _ => by rw [nI_1]; exact h, fun q => ⟨fun _ => by rw [nI_1]; exact h, fun q2 => ⟨_, _, tr, fun q3 => ?_, fun _ => by rw [nI_1]; exact h⟩⟩⟩⟩
          have b1 : bz free c = false := decide_eq_false q
          have b2 : bz free o = false := decide_eq_false q2
          unfold rpOk at hok
          rw [b1, b2] at hok
          exact absurd (bi_f hok) q3
      · have go2 : ∀ {r σ2}, ((¬ p1.1 = 0 → Rn8 mX8_reach (d + 5) 59 [.int m, .int n, .int free, .int (p1.1 + 1), .int (nI c), .int (nI o + 1)] (fun _ => []) τ1 r σ2) ∧ (p1.1 = 0 → Rn8 mX8_reach (d + 5) 59 [.int m, .int n, .int free, .int (p1.1 + 1), .int (nI c), .int (nI o + 1)] (fun _ => []) (upd τ1.1 67 2, upA τ1.2.1 64 (upd (upd (τ1.2.1 64) 0 (nI c)) 1 (nI o)), τ1.2.2.1, τ1.2.2.2) r σ2)) → Rn8 mX8_reach (d + 5) 59 [.int m, .int n, .int free, .int p1.1, .int (nI c), .int (nI o)] (fun _ => []) τ1 r σ2 := by
          intro r σ2 h
          have hok2 := hok
          unfold rpOk at hok2
          simp only [Bool.and_eq_true, Bool.not_eq_true'] at hok2
          refine g8_reach_59 ⟨fun q => absurd q hex, fun _ => ⟨fun q => absurd q (of_decide_eq_false hok2.1), fun _ => ⟨fun q => absurd q (of_decide_eq_false hok2.2.1), fun _ => ⟨_, _, tr, fun _ => h, fun q => absurd q (bi_t hok2.2.2)⟩⟩⟩⟩
        by_cases h0 : p1.1 = 0
        · refine ⟨(p1.1 + 1, 2, upd (upd p1.2.2 0 (nI c)) 1 (nI o)), (upd τ1.1 67 2, upA τ1.2.1 64 (upd (upd (τ1.2.1 64) 0 (nI c)) 1 (nI o)), τ1.2.2.1, τ1.2.2.2), ⟨?_, ⟨upd_s (f := τ1.1) (k := 67) (x := 2), ?_, fun j hj => ?_, y1.2.2.2.1, fun j hj => ?_⟩, ?_⟩, fun r σ2 h => go2 ⟨fun q => absurd h0 q, fun _ => by rw [nI_1]; exact h⟩⟩
          · rw [rpI_s, hok, ← y0]
            unfold rpS
            rw [if_pos rfl, if_pos h0]
          · show upA τ1.2.1 64 (upd (upd (τ1.2.1 64) 0 (nI c)) 1 (nI o)) 64 = _
            rw [upA_s, y1.2.1]
          · show upd τ1.1 67 2 j = _
            rw [upd_n hj]; exact y1.2.2.1 j hj
          · show upA τ1.2.1 64 (upd (upd (τ1.2.1 64) 0 (nI c)) 1 (nI o)) j = _
            rw [upA_n (fun e => hj (by rw [e]; decide))]; exact y1.2.2.2.2 j hj
          · show upA τ1.2.1 64 (upd (upd (τ1.2.1 64) 0 (nI c)) 1 (nI o)) 66 = _
            rw [upA_n (by decide)]; exact y2
        · refine ⟨(p1.1 + 1, p1.2), τ1, ⟨?_, y1, y2⟩, fun r σ2 h => go2 ⟨fun _ => by rw [nI_1]; exact h, fun q => absurd q h0⟩⟩
          rw [rpI_s, hok, ← y0]
          unfold rpS
          rw [if_pos rfl, if_neg h0]) 0 p τ (Nat.zero_le _) ⟨rfl, z1, z2⟩
    obtain ⟨p1, τ1, ⟨y0, y1, y2⟩, y3⟩ := key2
    refine ⟨p1, τ1, ⟨by rw [rpO_s, ← z0]; exact y0, y1, y2⟩, fun r σ2 h => ?_⟩
    have e49 : τ.1 49 = nI nc := by rw [z1.2.2.1 49 (by decide)]; exact hR.2.2.1
    have e49' : τ1.1 49 = nI nc := by rw [y1.2.2.1 49 (by decide)]; exact hR.2.2.1
    exact g8_reach_47 ⟨fun q => absurd q (by rw [e49]; exact nI_ge hc (by omega)), fun _ => y3 _ _ (g8_reach_59 ⟨fun _ => by rw [nI_1]; exact h, fun q => absurd (by rw [e49']; exact nI_le (Nat.le_refl _) (by omega)) q⟩)⟩) 0 (0, 0, σ.2.1 64) σ1 (Nat.zero_le _) ⟨rfl, l1, rfl⟩
  obtain ⟨p, τ, ⟨y0, y1, y2⟩, y3⟩ := key
  rw [← y0]
  have e49 : τ.1 49 = nI nc := by rw [y1.2.2.1 49 (by decide)]; exact hR.2.2.1
  exact ⟨τ, go ⟨fun q => absurd q (by decide), fun _ => ⟨_, _, isManT8 (d + 2) σ1 n hR1, fun q => absurd q (bi_t hn2), fun _ => ⟨fun q => absurd q h3, fun _ => ⟨fun _ => y3 _ _ (g8_reach_47 ⟨fun _ => ⟨rfl, rfl⟩, fun q => absurd (by rw [e49]; exact nI_le (Nat.le_refl _) (by omega)) q⟩), fun q => absurd q h4⟩⟩⟩⟩, y1.PK⟩
