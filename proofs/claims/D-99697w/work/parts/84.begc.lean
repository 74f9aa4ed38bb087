/-! the component's states: as told at the beginning; a copy of now -/
set_option maxRecDepth 100000
/-- all as told -/
def begU (ρ : Rho) (j : Nat) : Int32 :=
  if j < 6 then (if j < ρ.1 0 then mnI ρ j 2 else 0) else if j < 12 then -1
  else if j < 18 then (if j - 12 < ρ.1 1 then ctI ρ (j - 12) 1 else 0)
  else if j < 24 then (if j - 18 < ρ.1 1 then ctI ρ (j - 18) 2 else 0)
  else if j < 30 then (if j - 24 < ρ.1 1 then ctI ρ (j - 24) 3 else 0)
  else if j < 36 then (if j - 30 < ρ.1 1 then ctI ρ (j - 30) 4 else 0)
  else if j = 38 then rgI ρ 13 else 0
theorem begU_12 {ρ : Rho} {k : Nat} (hk : k < 6) : begU ρ (12 + k) = if k < ρ.1 1 then ctI ρ k 1 else 0 := by
  unfold begU
  rw [if_neg (by omega), if_neg (by omega), if_pos (by omega), show 12 + k - 12 = k by omega]
theorem begU_18 {ρ : Rho} {k : Nat} (hk : k < 6) : begU ρ (18 + k) = if k < ρ.1 1 then ctI ρ k 2 else 0 := by
  unfold begU
  rw [if_neg (by omega), if_neg (by omega), if_neg (by omega), if_pos (by omega), show 18 + k - 18 = k by omega]
theorem begU_24 {ρ : Rho} {k : Nat} (hk : k < 6) : begU ρ (24 + k) = if k < ρ.1 1 then ctI ρ k 3 else 0 := by
  unfold begU
  rw [if_neg (by omega), if_neg (by omega), if_neg (by omega), if_neg (by omega), if_pos (by omega), show 24 + k - 24 = k by omega]
theorem begU_30 {ρ : Rho} {k : Nat} (hk : k < 6) : begU ρ (30 + k) = if k < ρ.1 1 then ctI ρ k 4 else 0 := by
  unfold begU
  rw [if_neg (by omega), if_neg (by omega), if_neg (by omega), if_neg (by omega), if_neg (by omega), if_pos (by omega), show 30 + k - 30 = k by omega]
def spln : List Nat := [1, 2, 3, 4, 5, 6, 7]
theorem begCn (d : Nat) {ρ : Rho} {E : Hp → Prop} {A : Nat → Nat} {σ : Sg} (h6 : ρ.1 0 ≤ 6) (h6c : ρ.1 1 ≤ 6) : ∃ σ1, Tv ρ E A mX2_begin (d + 4) 0 0 [.ref (A 1), .ref (ρ.1 2)] σ none σ1 ∧ kc spln σ σ1 ∧ ∀ j, j < 39 → stV σ1 1 j = begU ρ j := by
  obtain ⟨_, τ1, ⟨a1, a2⟩, a3⟩ := iterC (T := Unit) (fun k _ τ r σ1 => Rv ρ E A mX2_begin (d + 4) 0 0 2 [.ref (A 1), .ref (ρ.1 2), .int (nI k), U_] [] τ r σ1) (fun k _ τ => kc spln σ τ ∧ ∀ j, (j < k ∨ (6 ≤ j ∧ j < 6 + k)) → stV τ 1 j = begU ρ j) 6 (by
    rintro k ⟨⟩ τ hk ⟨q1, q2⟩
    have ck : (nI k).toNatClampNeg = k := cl (by omega)
    refine ⟨(), (upA (upA τ.1 2 (upd (τ.1 2) k (if k < ρ.1 0 then mnI ρ k 2 else 0))) 3 (upd (τ.1 3) k (-1)), τ.2), ⟨(q1.up (o := 2) (by decide) _).up (o := 3) (by decide) _, fun j hj => ?_⟩, fun r σ1 h => ?_⟩
    · have x1 := svn1 (σ := (upA τ.1 2 (upd (τ.1 2) k (if k < ρ.1 0 then mnI ρ k 2 else 0)), τ.2)) (w := τ.2) (x := -1) hk
      have x2 := svn0 (σ := τ) (w := τ.2) (x := if k < ρ.1 0 then mnI ρ k 2 else 0) hk
      rw [x2] at x1
      have x1' : stV (upA (upA τ.1 2 (upd (τ.1 2) k (if k < ρ.1 0 then mnI ρ k 2 else 0))) 3 (upd (τ.1 3) k (-1)), τ.2) 1 = _ := x1
      rw [x1']
      by_cases e1 : j = 6 + k
      · subst e1
        rw [upd_s]
        unfold begU
        rw [if_neg (by omega), if_pos (by omega)]
      rw [upd_n e1]
      by_cases e2 : j = k
      · subst e2
        rw [upd_s]
        unfold begU
        rw [if_pos hk]
      rw [upd_n e2]
      exact q2 j (by omega)
    · by_cases hkm : k < ρ.1 0
      · refine gc_X2_beginn_2 ⟨fun q => absurd q (nI_ge (b := 6) hk (by decide)), fun _ => ⟨fun q => absurd q (nI_ge hkm (by omega)), fun _ => ⟨vin hkm (by omega), vin hk (by decide), ?_⟩⟩⟩
        rw [ck, nI_1]
        rw [if_pos hkm] at h
        exact h
      · refine gc_X2_beginn_2 ⟨fun q => absurd q (nI_ge (b := 6) hk (by decide)), fun _ => ⟨fun _ => ⟨vin hk (by decide), ?_⟩, fun q => absurd (nI_le (by omega) (by omega)) q⟩⟩
        rw [ck, nI_1]
        rw [if_neg hkm] at h
        exact h) 0 () σ (Nat.zero_le _) ⟨kc.rf, fun j hj => by omega⟩
  obtain ⟨_, τ2, ⟨b1, b2⟩, b3⟩ := iterC (T := Unit) (fun k _ τ r σ1 => Rv ρ E A mX2_begin (d + 4) 0 0 58 [.ref (A 1), .ref (ρ.1 2), .int (nI k), U_] [] τ r σ1) (fun k _ τ => kc spln σ τ ∧ ∀ j, (j < 12 + k ∨ (18 ≤ j ∧ j < 18 + k) ∨ (24 ≤ j ∧ j < 24 + k) ∨ (30 ≤ j ∧ j < 30 + k)) → stV τ 1 j = begU ρ j) 6 (by
    rintro k ⟨⟩ τ hk ⟨q1, q2⟩
    have ck : (nI k).toNatClampNeg = k := cl (by omega)
    refine ⟨(), (upA (upA (upA (upA τ.1 4 (upd (τ.1 4) k (if k < ρ.1 1 then ctI ρ k 1 else 0))) 5 (upd (τ.1 5) k (if k < ρ.1 1 then ctI ρ k 2 else 0))) 6 (upd (τ.1 6) k (if k < ρ.1 1 then ctI ρ k 3 else 0))) 7 (upd (τ.1 7) k (if k < ρ.1 1 then ctI ρ k 4 else 0)), τ.2), ⟨(((q1.up (o := 4) (by decide) _).up (o := 5) (by decide) _).up (o := 6) (by decide) _).up (o := 7) (by decide) _, fun j hj => ?_⟩, fun r σ1 h => ?_⟩
    · have x1 := svn5 (σ := (upA (upA (upA τ.1 4 (upd (τ.1 4) k (if k < ρ.1 1 then ctI ρ k 1 else 0))) 5 (upd (τ.1 5) k (if k < ρ.1 1 then ctI ρ k 2 else 0))) 6 (upd (τ.1 6) k (if k < ρ.1 1 then ctI ρ k 3 else 0)), τ.2)) (w := τ.2) (x := if k < ρ.1 1 then ctI ρ k 4 else 0) hk
      have x2 := svn4 (σ := (upA (upA τ.1 4 (upd (τ.1 4) k (if k < ρ.1 1 then ctI ρ k 1 else 0))) 5 (upd (τ.1 5) k (if k < ρ.1 1 then ctI ρ k 2 else 0)), τ.2)) (w := τ.2) (x := if k < ρ.1 1 then ctI ρ k 3 else 0) hk
      have x3 := svn3 (σ := (upA τ.1 4 (upd (τ.1 4) k (if k < ρ.1 1 then ctI ρ k 1 else 0)), τ.2)) (w := τ.2) (x := if k < ρ.1 1 then ctI ρ k 2 else 0) hk
      have x4 := svn2 (σ := τ) (w := τ.2) (x := if k < ρ.1 1 then ctI ρ k 1 else 0) hk
      rw [x4] at x3
      have x3' : stV (upA (upA τ.1 4 (upd (τ.1 4) k (if k < ρ.1 1 then ctI ρ k 1 else 0))) 5 (upd (τ.1 5) k (if k < ρ.1 1 then ctI ρ k 2 else 0)), τ.2) 1 = _ := x3
      rw [x3'] at x2
      have x2' : stV (upA (upA (upA τ.1 4 (upd (τ.1 4) k (if k < ρ.1 1 then ctI ρ k 1 else 0))) 5 (upd (τ.1 5) k (if k < ρ.1 1 then ctI ρ k 2 else 0))) 6 (upd (τ.1 6) k (if k < ρ.1 1 then ctI ρ k 3 else 0)), τ.2) 1 = _ := x2
      rw [x2'] at x1
      have x1' : stV (upA (upA (upA (upA τ.1 4 (upd (τ.1 4) k (if k < ρ.1 1 then ctI ρ k 1 else 0))) 5 (upd (τ.1 5) k (if k < ρ.1 1 then ctI ρ k 2 else 0))) 6 (upd (τ.1 6) k (if k < ρ.1 1 then ctI ρ k 3 else 0))) 7 (upd (τ.1 7) k (if k < ρ.1 1 then ctI ρ k 4 else 0)), τ.2) 1 = _ := x1
      rw [x1']
      by_cases e1 : j = 30 + k
      · subst e1
        rw [upd_s, begU_30 hk]
      rw [upd_n e1]
      by_cases e2 : j = 24 + k
      · subst e2
        rw [upd_s, begU_24 hk]
      rw [upd_n e2]
      by_cases e3 : j = 18 + k
      · subst e3
        rw [upd_s, begU_18 hk]
      rw [upd_n e3]
      by_cases e4 : j = 12 + k
      · subst e4
        rw [upd_s, begU_12 hk]
      rw [upd_n e4]
      exact q2 j (by omega)
    · have b6 : vp_in (nI k) 6 := vin hk (by decide)
      by_cases hkc : k < ρ.1 1
      · have bc : vp_in (nI k) (ρ.1 1) := vin hkc (by omega)
        have h1 : ¬ (1 : Int32) = 0 := by decide
        refine gc_X2_beginn_58 ⟨fun q => absurd q (nI_ge (b := 6) hk (by decide)), fun _ => ?_⟩
        rw [if_neg (nI_ge hkc (by omega))]
        refine gc_X2_beginn_80_1 ⟨fun q => absurd q h1, fun _ => ⟨bc, ?_⟩⟩
        refine gc_X2_beginn_108_3 ⟨b6, fun q => absurd q h1, fun _ => ⟨bc, ?_⟩⟩
        refine gc_X2_beginn_136_3 ⟨b6, fun q => absurd q h1, fun _ => ⟨bc, ?_⟩⟩
        refine gc_X2_beginn_164_3 ⟨b6, fun q => absurd q h1, fun _ => ⟨bc, b6, ?_⟩⟩
        rw [if_pos hkc, if_pos hkc, if_pos hkc, if_pos hkc] at h
        rw [ck, nI_1]
        exact h
      · refine gc_X2_beginn_58 ⟨fun q => absurd q (nI_ge (b := 6) hk (by decide)), fun _ => ?_⟩
        rw [if_pos (nI_le (by omega) (by omega))]
        refine gc_X2_beginn_80_1 ⟨fun _ => ?_, fun q => absurd rfl q⟩
        refine gc_X2_beginn_108_3 ⟨b6, fun _ => ?_, fun q => absurd rfl q⟩
        refine gc_X2_beginn_136_3 ⟨b6, fun _ => ?_, fun q => absurd rfl q⟩
        refine gc_X2_beginn_164_3 ⟨b6, fun _ => ⟨b6, ?_⟩, fun q => absurd rfl q⟩
        rw [if_neg hkc, if_neg hkc, if_neg hkc, if_neg hkc] at h
        rw [ck, nI_1]
        exact h) 0 () τ1 (Nat.zero_le _) ⟨a1, fun j hj => a2 j (by omega)⟩
  refine ⟨(upA τ2.1 1 (upd (upd (upd (τ2.1 1) 6 0) 7 0) 8 (rgI ρ 13)), τ2.2), Tv.of [.ref (A 1), .ref (ρ.1 2), U_, U_] (by decide) rfl (fun _ => Nat.le_of_ble_eq_true rfl) b1.1 (gc_X2_beginn_0 (a3 _ _ (gc_X2_beginn_2 ⟨fun _ => b3 _ _ (gc_X2_beginn_58 ⟨fun _ => ⟨rfl, rfl⟩, fun q => absurd (by decide) q⟩), fun q => absurd (by decide) q⟩))), b1.up (o := 1) (by decide) _, fun j hj => ?_⟩
  have x1 := svn8 (σ := (upA (upA τ2.1 1 (upd (τ2.1 1) 6 0)) 1 (upd (upA τ2.1 1 (upd (τ2.1 1) 6 0) 1) 7 0), τ2.2)) (w := τ2.2) (x := rgI ρ 13)
  have x2 := svn7 (σ := (upA τ2.1 1 (upd (τ2.1 1) 6 0), τ2.2)) (w := τ2.2) (x := 0)
  have x3 := svn6 (σ := τ2) (w := τ2.2) (x := 0)
  rw [x3] at x2
  have x2' : stV (upA (upA τ2.1 1 (upd (τ2.1 1) 6 0)) 1 (upd (upA τ2.1 1 (upd (τ2.1 1) 6 0) 1) 7 0), τ2.2) 1 = _ := x2
  rw [x2'] at x1
  have e : (upA (upA (upA τ2.1 1 (upd (τ2.1 1) 6 0)) 1 (upd (upA τ2.1 1 (upd (τ2.1 1) 6 0) 1) 7 0)) 1 (upd (upA (upA τ2.1 1 (upd (τ2.1 1) 6 0)) 1 (upd (upA τ2.1 1 (upd (τ2.1 1) 6 0) 1) 7 0) 1) 8 (rgI ρ 13)), τ2.2) = ((upA τ2.1 1 (upd (upd (upd (τ2.1 1) 6 0) 7 0) 8 (rgI ρ 13)), τ2.2) : Sg) := by
    rw [upA_upA, upA_upA, upA_s, upA_s]
  have x1' : stV (upA (upA (upA τ2.1 1 (upd (τ2.1 1) 6 0)) 1 (upd (upA τ2.1 1 (upd (τ2.1 1) 6 0) 1) 7 0)) 1 (upd (upA (upA τ2.1 1 (upd (τ2.1 1) 6 0)) 1 (upd (upA τ2.1 1 (upd (τ2.1 1) 6 0) 1) 7 0) 1) 8 (rgI ρ 13)), τ2.2) 1 = _ := x1
  rw [e] at x1'
  rw [x1']
  by_cases e1 : j = 38
  · subst e1
    rw [upd_s]
    rfl
  rw [upd_n e1]
  by_cases e2 : j = 37
  · subst e2
    rw [upd_s]
    rfl
  rw [upd_n e2]
  by_cases e3 : j = 36
  · subst e3
    rw [upd_s]
    rfl
  rw [upd_n e3]
  exact b2 j (by omega)
def splt : List Nat := [8, 9, 10, 11, 12, 13, 14]
theorem begCt (d : Nat) {ρ : Rho} {E : Hp → Prop} {A : Nat → Nat} {σ : Sg} (h6 : ρ.1 0 ≤ 6) (h6c : ρ.1 1 ≤ 6) : ∃ σ1, Tv ρ E A mX2_begin (d + 4) 0 0 [.ref (A 8), .ref (ρ.1 2)] σ none σ1 ∧ kc splt σ σ1 ∧ ∀ j, j < 39 → stV σ1 8 j = begU ρ j := by
  obtain ⟨_, τ1, ⟨a1, a2⟩, a3⟩ := iterC (T := Unit) (fun k _ τ r σ1 => Rv ρ E A mX2_begin (d + 4) 0 0 2 [.ref (A 8), .ref (ρ.1 2), .int (nI k), U_] [] τ r σ1) (fun k _ τ => kc splt σ τ ∧ ∀ j, (j < k ∨ (6 ≤ j ∧ j < 6 + k)) → stV τ 8 j = begU ρ j) 6 (by
    rintro k ⟨⟩ τ hk ⟨q1, q2⟩
    have ck : (nI k).toNatClampNeg = k := cl (by omega)
    refine ⟨(), (upA (upA τ.1 9 (upd (τ.1 9) k (if k < ρ.1 0 then mnI ρ k 2 else 0))) 10 (upd (τ.1 10) k (-1)), τ.2), ⟨(q1.up (o := 9) (by decide) _).up (o := 10) (by decide) _, fun j hj => ?_⟩, fun r σ1 h => ?_⟩
    · have x1 := svt1 (σ := (upA τ.1 9 (upd (τ.1 9) k (if k < ρ.1 0 then mnI ρ k 2 else 0)), τ.2)) (w := τ.2) (x := -1) hk
      have x2 := svt0 (σ := τ) (w := τ.2) (x := if k < ρ.1 0 then mnI ρ k 2 else 0) hk
      rw [x2] at x1
      have x1' : stV (upA (upA τ.1 9 (upd (τ.1 9) k (if k < ρ.1 0 then mnI ρ k 2 else 0))) 10 (upd (τ.1 10) k (-1)), τ.2) 8 = _ := x1
      rw [x1']
      by_cases e1 : j = 6 + k
      · subst e1
        rw [upd_s]
        unfold begU
        rw [if_neg (by omega), if_pos (by omega)]
      rw [upd_n e1]
      by_cases e2 : j = k
      · subst e2
        rw [upd_s]
        unfold begU
        rw [if_pos hk]
      rw [upd_n e2]
      exact q2 j (by omega)
    · by_cases hkm : k < ρ.1 0
      · refine gc_X2_begint_2 ⟨fun q => absurd q (nI_ge (b := 6) hk (by decide)), fun _ => ⟨fun q => absurd q (nI_ge hkm (by omega)), fun _ => ⟨vin hkm (by omega), vin hk (by decide), ?_⟩⟩⟩
        rw [ck, nI_1]
        rw [if_pos hkm] at h
        exact h
      · refine gc_X2_begint_2 ⟨fun q => absurd q (nI_ge (b := 6) hk (by decide)), fun _ => ⟨fun _ => ⟨vin hk (by decide), ?_⟩, fun q => absurd (nI_le (by omega) (by omega)) q⟩⟩
        rw [ck, nI_1]
        rw [if_neg hkm] at h
        exact h) 0 () σ (Nat.zero_le _) ⟨kc.rf, fun j hj => by omega⟩
  obtain ⟨_, τ2, ⟨b1, b2⟩, b3⟩ := iterC (T := Unit) (fun k _ τ r σ1 => Rv ρ E A mX2_begin (d + 4) 0 0 58 [.ref (A 8), .ref (ρ.1 2), .int (nI k), U_] [] τ r σ1) (fun k _ τ => kc splt σ τ ∧ ∀ j, (j < 12 + k ∨ (18 ≤ j ∧ j < 18 + k) ∨ (24 ≤ j ∧ j < 24 + k) ∨ (30 ≤ j ∧ j < 30 + k)) → stV τ 8 j = begU ρ j) 6 (by
    rintro k ⟨⟩ τ hk ⟨q1, q2⟩
    have ck : (nI k).toNatClampNeg = k := cl (by omega)
    refine ⟨(), (upA (upA (upA (upA τ.1 11 (upd (τ.1 11) k (if k < ρ.1 1 then ctI ρ k 1 else 0))) 12 (upd (τ.1 12) k (if k < ρ.1 1 then ctI ρ k 2 else 0))) 13 (upd (τ.1 13) k (if k < ρ.1 1 then ctI ρ k 3 else 0))) 14 (upd (τ.1 14) k (if k < ρ.1 1 then ctI ρ k 4 else 0)), τ.2), ⟨(((q1.up (o := 11) (by decide) _).up (o := 12) (by decide) _).up (o := 13) (by decide) _).up (o := 14) (by decide) _, fun j hj => ?_⟩, fun r σ1 h => ?_⟩
    · have x1 := svt5 (σ := (upA (upA (upA τ.1 11 (upd (τ.1 11) k (if k < ρ.1 1 then ctI ρ k 1 else 0))) 12 (upd (τ.1 12) k (if k < ρ.1 1 then ctI ρ k 2 else 0))) 13 (upd (τ.1 13) k (if k < ρ.1 1 then ctI ρ k 3 else 0)), τ.2)) (w := τ.2) (x := if k < ρ.1 1 then ctI ρ k 4 else 0) hk
      have x2 := svt4 (σ := (upA (upA τ.1 11 (upd (τ.1 11) k (if k < ρ.1 1 then ctI ρ k 1 else 0))) 12 (upd (τ.1 12) k (if k < ρ.1 1 then ctI ρ k 2 else 0)), τ.2)) (w := τ.2) (x := if k < ρ.1 1 then ctI ρ k 3 else 0) hk
      have x3 := svt3 (σ := (upA τ.1 11 (upd (τ.1 11) k (if k < ρ.1 1 then ctI ρ k 1 else 0)), τ.2)) (w := τ.2) (x := if k < ρ.1 1 then ctI ρ k 2 else 0) hk
      have x4 := svt2 (σ := τ) (w := τ.2) (x := if k < ρ.1 1 then ctI ρ k 1 else 0) hk
      rw [x4] at x3
      have x3' : stV (upA (upA τ.1 11 (upd (τ.1 11) k (if k < ρ.1 1 then ctI ρ k 1 else 0))) 12 (upd (τ.1 12) k (if k < ρ.1 1 then ctI ρ k 2 else 0)), τ.2) 8 = _ := x3
      rw [x3'] at x2
      have x2' : stV (upA (upA (upA τ.1 11 (upd (τ.1 11) k (if k < ρ.1 1 then ctI ρ k 1 else 0))) 12 (upd (τ.1 12) k (if k < ρ.1 1 then ctI ρ k 2 else 0))) 13 (upd (τ.1 13) k (if k < ρ.1 1 then ctI ρ k 3 else 0)), τ.2) 8 = _ := x2
      rw [x2'] at x1
      have x1' : stV (upA (upA (upA (upA τ.1 11 (upd (τ.1 11) k (if k < ρ.1 1 then ctI ρ k 1 else 0))) 12 (upd (τ.1 12) k (if k < ρ.1 1 then ctI ρ k 2 else 0))) 13 (upd (τ.1 13) k (if k < ρ.1 1 then ctI ρ k 3 else 0))) 14 (upd (τ.1 14) k (if k < ρ.1 1 then ctI ρ k 4 else 0)), τ.2) 8 = _ := x1
      rw [x1']
      by_cases e1 : j = 30 + k
      · subst e1
        rw [upd_s, begU_30 hk]
      rw [upd_n e1]
      by_cases e2 : j = 24 + k
      · subst e2
        rw [upd_s, begU_24 hk]
      rw [upd_n e2]
      by_cases e3 : j = 18 + k
      · subst e3
        rw [upd_s, begU_18 hk]
      rw [upd_n e3]
      by_cases e4 : j = 12 + k
      · subst e4
        rw [upd_s, begU_12 hk]
      rw [upd_n e4]
      exact q2 j (by omega)
    · have b6 : vp_in (nI k) 6 := vin hk (by decide)
      by_cases hkc : k < ρ.1 1
      · have bc : vp_in (nI k) (ρ.1 1) := vin hkc (by omega)
        have h1 : ¬ (1 : Int32) = 0 := by decide
        refine gc_X2_begint_58 ⟨fun q => absurd q (nI_ge (b := 6) hk (by decide)), fun _ => ?_⟩
        rw [if_neg (nI_ge hkc (by omega))]
        refine gc_X2_begint_80_1 ⟨fun q => absurd q h1, fun _ => ⟨bc, ?_⟩⟩
        refine gc_X2_begint_108_3 ⟨b6, fun q => absurd q h1, fun _ => ⟨bc, ?_⟩⟩
        refine gc_X2_begint_136_3 ⟨b6, fun q => absurd q h1, fun _ => ⟨bc, ?_⟩⟩
        refine gc_X2_begint_164_3 ⟨b6, fun q => absurd q h1, fun _ => ⟨bc, b6, ?_⟩⟩
        rw [if_pos hkc, if_pos hkc, if_pos hkc, if_pos hkc] at h
        rw [ck, nI_1]
        exact h
      · refine gc_X2_begint_58 ⟨fun q => absurd q (nI_ge (b := 6) hk (by decide)), fun _ => ?_⟩
        rw [if_pos (nI_le (by omega) (by omega))]
        refine gc_X2_begint_80_1 ⟨fun _ => ?_, fun q => absurd rfl q⟩
        refine gc_X2_begint_108_3 ⟨b6, fun _ => ?_, fun q => absurd rfl q⟩
        refine gc_X2_begint_136_3 ⟨b6, fun _ => ?_, fun q => absurd rfl q⟩
        refine gc_X2_begint_164_3 ⟨b6, fun _ => ⟨b6, ?_⟩, fun q => absurd rfl q⟩
        rw [if_neg hkc, if_neg hkc, if_neg hkc, if_neg hkc] at h
        rw [ck, nI_1]
        exact h) 0 () τ1 (Nat.zero_le _) ⟨a1, fun j hj => a2 j (by omega)⟩
  refine ⟨(upA τ2.1 8 (upd (upd (upd (τ2.1 8) 6 0) 7 0) 8 (rgI ρ 13)), τ2.2), Tv.of [.ref (A 8), .ref (ρ.1 2), U_, U_] (by decide) rfl (fun _ => Nat.le_of_ble_eq_true rfl) b1.1 (gc_X2_begint_0 (a3 _ _ (gc_X2_begint_2 ⟨fun _ => b3 _ _ (gc_X2_begint_58 ⟨fun _ => ⟨rfl, rfl⟩, fun q => absurd (by decide) q⟩), fun q => absurd (by decide) q⟩))), b1.up (o := 8) (by decide) _, fun j hj => ?_⟩
  have x1 := svt8 (σ := (upA (upA τ2.1 8 (upd (τ2.1 8) 6 0)) 8 (upd (upA τ2.1 8 (upd (τ2.1 8) 6 0) 8) 7 0), τ2.2)) (w := τ2.2) (x := rgI ρ 13)
  have x2 := svt7 (σ := (upA τ2.1 8 (upd (τ2.1 8) 6 0), τ2.2)) (w := τ2.2) (x := 0)
  have x3 := svt6 (σ := τ2) (w := τ2.2) (x := 0)
  rw [x3] at x2
  have x2' : stV (upA (upA τ2.1 8 (upd (τ2.1 8) 6 0)) 8 (upd (upA τ2.1 8 (upd (τ2.1 8) 6 0) 8) 7 0), τ2.2) 8 = _ := x2
  rw [x2'] at x1
  have e : (upA (upA (upA τ2.1 8 (upd (τ2.1 8) 6 0)) 8 (upd (upA τ2.1 8 (upd (τ2.1 8) 6 0) 8) 7 0)) 8 (upd (upA (upA τ2.1 8 (upd (τ2.1 8) 6 0)) 8 (upd (upA τ2.1 8 (upd (τ2.1 8) 6 0) 8) 7 0) 8) 8 (rgI ρ 13)), τ2.2) = ((upA τ2.1 8 (upd (upd (upd (τ2.1 8) 6 0) 7 0) 8 (rgI ρ 13)), τ2.2) : Sg) := by
    rw [upA_upA, upA_upA, upA_s, upA_s]
  have x1' : stV (upA (upA (upA τ2.1 8 (upd (τ2.1 8) 6 0)) 8 (upd (upA τ2.1 8 (upd (τ2.1 8) 6 0) 8) 7 0)) 8 (upd (upA (upA τ2.1 8 (upd (τ2.1 8) 6 0)) 8 (upd (upA τ2.1 8 (upd (τ2.1 8) 6 0) 8) 7 0) 8) 8 (rgI ρ 13)), τ2.2) 8 = _ := x1
  rw [e] at x1'
  rw [x1']
  by_cases e1 : j = 38
  · subst e1
    rw [upd_s]
    rfl
  rw [upd_n e1]
  by_cases e2 : j = 37
  · subst e2
    rw [upd_s]
    rfl
  rw [upd_n e2]
  by_cases e3 : j = 36
  · subst e3
    rw [upd_s]
    rfl
  rw [upd_n e3]
  exact b2 j (by omega)
/-- then becomes as now -/
theorem ofC (d : Nat) {ρ : Rho} {E : Hp → Prop} {A : Nat → Nat} {σ : Sg} : ∃ σ1, Tv ρ E A mX2_of (d + 1) 0 0 [.ref (A 8), .ref (A 1)] σ none σ1 ∧ kc splt σ σ1 ∧ ∀ j, j < 39 → stV σ1 8 j = stV σ 1 j := by
  refine ⟨_, Tv.of (σ1 := (upA (upA (upA (upA (upA (upA (upA σ.1 9 (va_cpy (σ.1 2) (σ.1 9) 0 0 6)) 10 (va_cpy (σ.1 3) (σ.1 10) 0 0 6)) 11 (va_cpy (σ.1 4) (σ.1 11) 0 0 6)) 12 (va_cpy (σ.1 5) (σ.1 12) 0 0 6)) 13 (va_cpy (σ.1 6) (σ.1 13) 0 0 6)) 14 (va_cpy (σ.1 7) (σ.1 14) 0 0 6)) 8 (upd (upd (upd (σ.1 8) 6 (σ.1 1 6)) 7 (σ.1 1 7)) 8 (σ.1 1 8)), σ.2)) [.ref (A 8), .ref (A 1)] (by decide) rfl (fun _ => Nat.le_of_ble_eq_true rfl) rfl (gc_X2_oftn_0 ⟨rfl, rfl⟩), ?_, fun j hj => ?_⟩
  · exact ((((((kc.rf.up (o := 9) (by decide) _).up (o := 10) (by decide) _).up (o := 11) (by decide) _).up (o := 12) (by decide) _).up (o := 13) (by decide) _).up (o := 14) (by decide) _).up (o := 8) (by decide) _
  · have hcp : ∀ (f g : Nat → Int32) (i : Nat), i < 6 → va_cpy f g 0 0 6 i = f i := fun f g i hi => by
      rw [pk_cpy_in (by omega) (by omega)]
      congr 1
      omega
    by_cases h36 : j < 36
    · obtain ⟨p, k, hp, hk, rfl⟩ : ∃ p k, p < 6 ∧ k < 6 ∧ j = 6 * p + k := ⟨j / 6, j % 6, by omega, by omega, by omega⟩
      rw [← stV_rd (b := 8) hp hk, ← stV_rd (b := 1) hp hk]
      match p, hp with
      | 0, _ => exact hcp _ _ k hk
      | 1, _ => exact hcp _ _ k hk
      | 2, _ => exact hcp _ _ k hk
      | 3, _ => exact hcp _ _ k hk
      | 4, _ => exact hcp _ _ k hk
      | 5, _ => exact hcp _ _ k hk
    · obtain ⟨q, hq, rfl⟩ : ∃ q, q < 3 ∧ j = 36 + q := ⟨j - 36, by omega, by omega⟩
      rw [← stV_rs (b := 8), ← stV_rs (b := 1)]
      match q, hq with
      | 0, _ => rfl
      | 1, _ => rfl
      | 2, _ => rfl
