/-! the twin: a day; the beginning; acts -/
set_option maxRecDepth 100000
def gd1 (grows v : Nat → Int32) (nm : Nat) : Nat → Int32 := acc8 (fun m v => upd v m (s8_lesser 99 (v m + grows m))) v nm
def gdc (t : Int32) (c : Nat) (v : Nat → Int32) : Nat → Int32 :=
  upd (upd (upd v (30 + c) (s8_lesser 99 (v (30 + c) + 1))) (12 + c) (s8_greater 0 ((upd v (30 + c) (s8_lesser 99 (v (30 + c) + 1))) (12 + c) - t))) (18 + c) (s8_greater 0 ((upd (upd v (30 + c) (s8_lesser 99 (v (30 + c) + 1))) (12 + c) (s8_greater 0 ((upd v (30 + c) (s8_lesser 99 (v (30 + c) + 1))) (12 + c) - t))) (18 + c) - t))
def gd2 (t : Int32) (nm : Nat) (v : Nat → Int32) (nc : Nat) : Nat → Int32 := acc8 (fun c v => if 0 ≤ wearer8 v (nI c) nm then gdc t c v else v) v nc
theorem gd2_s (t : Int32) (nm : Nat) (v : Nat → Int32) (k : Nat) : gd2 t nm v (k + 1) = if 0 ≤ wearer8 (gd2 t nm v k) (nI k) nm then gdc t k (gd2 t nm v k) else gd2 t nm v k := rfl
def gd3 (v : Nat → Int32) : Nat → Int32 := upd v 37 (v 37 + 1)
def gd4 (off : Int32) (v : Nat → Int32) (nm : Nat) : Nat → Int32 := acc8 (fun m v => if ((off >>> (nI m &&& 31)) &&& 1) = 1 then upd v (6 + m) (-1) else v) v nm
def offE (e : E8) (nm : Nat) (v : Nat → Int32) : Int32 := wearers8 v nm &&& (set8 (ownE e v) nm ^^^ (-1))
def midV (grows : Nat → Int32) (t : Int32) (nm nc : Nat) (v : Nat → Int32) : Nat → Int32 := gd3 (gd2 t nm (gd1 grows v nm) nc)
/-- who takes his off, and all behind the day -/
def dayO (e : E8) (grows : Nat → Int32) (t : Int32) (nm nc : Nat) (v : Nat → Int32) : Int32 := offE e nm (midV grows t nm nc v)
def dayV (e : E8) (grows : Nat → Int32) (t : Int32) (nm nc : Nat) (v : Nat → Int32) : Nat → Int32 := gd4 (dayO e grows t nm nc v) (midV grows t nm nc v) nm
theorem gd1_out {grows v : Nat → Int32} : ∀ (n j : Nat), n ≤ j → gd1 grows v n j = v j := by
  intro n
  induction n with
  | zero => intro j _; rfl
  | succ n ih =>
    intro j hj
    show upd (gd1 grows v n) n _ j = _
    rw [upd_n (by omega)]
    exact ih j (by omega)
theorem gdc_out {t : Int32} {c j : Nat} {v : Nat → Int32} (h1 : j ≠ 30 + c) (h2 : j ≠ 12 + c) (h3 : j ≠ 18 + c) : gdc t c v j = v j := by
  unfold gdc
  rw [upd_n h3, upd_n h2, upd_n h1]
theorem gd2_w {t : Int32} {nm : Nat} {v : Nat → Int32} : ∀ (n j : Nat), n ≤ 6 → j < 12 → gd2 t nm v n j = v j := by
  intro n
  induction n with
  | zero => intro j _ _; rfl
  | succ n ih =>
    intro j hn hj
    show (if 0 ≤ wearer8 (gd2 t nm v n) (nI n) nm then gdc t n (gd2 t nm v n) else gd2 t nm v n) j = _
    split
    · rw [gdc_out (by omega) (by omega) (by omega)]; exact ih j (by omega) hj
    · exact ih j (by omega) hj
theorem midV_w {grows v : Nat → Int32} {t : Int32} {nm nc : Nat} (h6 : nm ≤ 6) (hc : nc ≤ 6) {j : Nat} (h1 : 6 ≤ j) (h2 : j < 12) : midV grows t nm nc v j = v j := by
  unfold midV gd3
  rw [upd_n (by omega), gd2_w nc j hc h2, gd1_out nm j (by omega)]
theorem midV_ok {grows v : Nat → Int32} {t : Int32} {nm nc : Nat} (h6 : nm ≤ 6) (hc : nc ≤ 6) (hW : okW v nm nc) : okW (midV grows t nm nc v) nm nc := by
  intro m hm
  rw [midV_w h6 hc (by omega) (by omega)]
  exact hW m hm
theorem gd4_at {off : Int32} {v : Nat → Int32} : ∀ (n j : Nat), gd4 off v n j = if 6 ≤ j ∧ j < 6 + n ∧ ((off >>> (nI (j - 6) &&& 31)) &&& 1) = 1 then -1 else v j := by
  intro n
  induction n with
  | zero => intro j; rw [if_neg (by omega)]; rfl
  | succ n ih =>
    intro j
    show (if ((off >>> (nI n &&& 31)) &&& 1) = 1 then upd (gd4 off v n) (6 + n) (-1) else gd4 off v n) j = _
    by_cases e : j = 6 + n
    · subst e
      have e2 : 6 + n - 6 = n := by omega
      rw [e2]
      split
      · rename_i h
        rw [upd_s, if_pos ⟨by omega, by omega, h⟩]
      · rename_i h
        rw [ih, if_neg (by omega), if_neg (fun q => h q.2.2)]
    · have h9 : (if ((off >>> (nI n &&& 31)) &&& 1) = 1 then upd (gd4 off v n) (6 + n) (-1) else gd4 off v n) j = gd4 off v n j := by
        split
        · rw [upd_n e]
        · rfl
      rw [h9, ih]
      by_cases h : 6 ≤ j ∧ j < 6 + n ∧ ((off >>> (nI (j - 6) &&& 31)) &&& 1) = 1
      · rw [if_pos h, if_pos ⟨h.1, by omega, h.2.2⟩]
      · rw [if_neg h, if_neg (fun q => h ⟨q.1, by omega, q.2.2⟩)]
theorem dayV_ok {e : E8} {grows v : Nat → Int32} {t : Int32} {nm nc : Nat} (h6 : nm ≤ 6) (hc : nc ≤ 6) (hW : okW v nm nc) : okW (dayV e grows t nm nc v) nm nc := by
  intro m hm
  unfold dayV
  rw [gd4_at]
  split
  · exact Or.inl rfl
  · exact midV_ok h6 hc hW m hm
theorem kp1 {A : List Nat} {σ τ : S8} {j : Nat} {g : Nat → Int32} (h : kp A σ τ) (hj : j ∈ A) : kp A σ (τ.1, upA τ.2.1 j g, τ.2.2.1, τ.2.2.2) := h.up hj g
theorem goDayT8 (d : Nat) (σ : S8) {nm nc : Nat} (b : Bool) (hR : R8 σ nm nc) (hW : okW (σ.2.1 60) nm nc) :
    ∃ σ1, Tw8 mX8_goDay (d + 7) [.int (bi b)] σ (some (.int (dayO (env8 σ) (σ.2.1 36) (bi b) nm nc (σ.2.1 60)))) σ1 ∧ kp [16, 26, 60] σ σ1 ∧ σ1.2.1 60 = dayV (env8 σ) (σ.2.1 36) (bi b) nm nc (σ.2.1 60) := by
  have h6 := hR.2.1
  have hc6 := hR.2.2.2.1
  obtain ⟨_, τ1, ⟨a1, a2⟩, a3⟩ := iter8 (A := Unit) (fun k _ τ r σ1 => Rn8 mX8_goDay (d + 7) 2 [.int (bi b), .int (nI k), U_] (fun _ => []) τ r σ1) (fun k _ τ => kp [16, 26, 60] σ τ ∧ τ.2.1 60 = gd1 (σ.2.1 36) (σ.2.1 60) k) nm (by
    rintro k ⟨⟩ τ hk ⟨q1, q2⟩
    refine ⟨(), _, ⟨kp1 (j := 60) (g := upd (τ.2.1 60) k (s8_lesser 99 (τ.2.1 60 k + σ.2.1 36 k))) q1 (by decide), ?_⟩, fun r σ1 h => ?_⟩
    · show upA τ.2.1 60 _ 60 = _
      rw [upA_s, q2]
      rfl
    · refine g8_goDay_2 ⟨fun q => absurd q (by rw [q1.1, hR.1]; exact nI_ge hk (by omega)), fun _ => ⟨vin (by omega) (by decide), vin (by omega) (by decide), ?_⟩⟩
      rw [nI_1, cl (by omega), q1.2.2 36 (by decide)]
      exact h) 0 () σ (Nat.zero_le _) ⟨kp.rf, rfl⟩
  obtain ⟨_, τ2, ⟨b1, b2⟩, b3⟩ := iter8 (A := Unit) (fun k _ τ r σ1 => Rn8 mX8_goDay (d + 7) 42 [.int (bi b), .int (nI k), U_] (fun _ => []) τ r σ1) (fun k _ τ => kp [16, 26, 60] σ τ ∧ τ.2.1 60 = gd2 (bi b) nm (gd1 (σ.2.1 36) (σ.2.1 60) nm) k) nc (by
    rintro k ⟨⟩ τ hk ⟨q1, q2⟩
    have w1 := wearerT8 (d + 5) τ (nI k) nm (by rw [q1.1]; exact hR.1) h6
    have e1 : ((30 : Int32) + nI k).toNatClampNeg = 30 + k := by rw [n30]; exact cl (by omega)
    have e2 : ((12 : Int32) + nI k).toNatClampNeg = 12 + k := by rw [n12]; exact cl (by omega)
    have e3 : ((18 : Int32) + nI k).toNatClampNeg = 18 + k := by rw [n18]; exact cl (by omega)
    by_cases hw : 0 ≤ wearer8 (τ.2.1 60) (nI k) nm
    · refine ⟨(), _, ⟨kp1 (j := 60) (g := gdc (bi b) k (τ.2.1 60)) q1 (by decide), ?_⟩, fun r σ1 h => ?_⟩
      · show upA τ.2.1 60 (gdc (bi b) k (τ.2.1 60)) 60 = gd2 (bi b) nm (gd1 (σ.2.1 36) (σ.2.1 60) nm) (k + 1)
        rw [gd2_s, ← q2, if_pos hw, upA_s]
      · refine g8_goDay_42 ⟨fun q => absurd q (by rw [q1.1, hR.2.2.1]; exact nI_ge hk (by omega)), fun _ => ⟨_, _, w1, fun _ => ⟨by rw [n30]; exact vin (by omega) (by decide), by rw [n12]; exact vin (by omega) (by decide), by rw [n18]; exact vin (by omega) (by decide), ?_⟩, fun q => absurd hw q⟩⟩
        rw [nI_1, e1, e2, e3, tr_bi]
        exact h
    · refine ⟨(), τ, ⟨q1, ?_⟩, fun r σ1 h => ?_⟩
      · rw [gd2_s, ← q2, if_neg hw]
      · refine g8_goDay_42 ⟨fun q => absurd q (by rw [q1.1, hR.2.2.1]; exact nI_ge hk (by omega)), fun _ => ⟨_, _, w1, fun q => absurd q hw, fun _ => ?_⟩⟩
        rw [nI_1]
        exact h) 0 () τ1 (Nat.zero_le _) ⟨a1, a2⟩
  -- the day's number; who wears, who fits
  have hmid : ∀ g, g = midV (σ.2.1 36) (bi b) nm nc (σ.2.1 60) → okW g nm nc := by
    intro g e
    rw [e]
    exact midV_ok h6 hc6 hW
  have c1 : kp [16, 26, 60] σ (τ2.1, upA τ2.2.1 60 (upd (τ2.2.1 60) 37 (τ2.2.1 60 37 + 1)), τ2.2.2.1, τ2.2.2.2) := kp1 b1 (by decide)
  have c2 : (upA τ2.2.1 60 (upd (τ2.2.1 60) 37 (τ2.2.1 60 37 + 1))) 60 = midV (σ.2.1 36) (bi b) nm nc (σ.2.1 60) := by rw [upA_s, b2]; rfl
  have c3 := wearersT8 (d + 4) (τ2.1, upA τ2.2.1 60 (upd (τ2.2.1 60) 37 (τ2.2.1 60 37 + 1)), τ2.2.2.1, τ2.2.2.2) nm (by rw [c1.1]; exact hR.1) h6
  obtain ⟨τ3, d1, d2⟩ := fittedOnesT8 d (τ2.1, upA τ2.2.1 60 (upd (τ2.2.1 60) 37 (τ2.2.1 60 37 + 1)), τ2.2.2.1, τ2.2.2.2) (hR.kp c1 (by decide) (by decide)) (hmid _ c2)
  have d3 : kp [16, 26, 60] σ τ3 := c1.tr (d2.mo (by decide))
  have d4 : τ3.2.1 60 = midV (σ.2.1 36) (bi b) nm nc (σ.2.1 60) := by rw [d2.2.2 60 (by decide)]; exact c2
  have eo : wearers8 (upA τ2.2.1 60 (upd (τ2.2.1 60) 37 (τ2.2.1 60 37 + 1)) 60) nm &&& (set8 (ownE (env8 (τ2.1, upA τ2.2.1 60 (upd (τ2.2.1 60) 37 (τ2.2.1 60 37 + 1)), τ2.2.2.1, τ2.2.2.2)) (upA τ2.2.1 60 (upd (τ2.2.1 60) 37 (τ2.2.1 60 37 + 1)) 60)) nm ^^^ (-1)) = dayO (env8 σ) (σ.2.1 36) (bi b) nm nc (σ.2.1 60) := by
    rw [c2, env8_kp c1 (by decide) (by decide) (by decide)]
    rfl
  obtain ⟨_, τ4, ⟨f1, f2⟩, f3⟩ := iter8 (A := Unit) (fun k _ τ r σ1 => Rn8 mX8_goDay (d + 7) 171 [.int (bi b), .int (dayO (env8 σ) (σ.2.1 36) (bi b) nm nc (σ.2.1 60)), .int (nI k)] (fun _ => []) τ r σ1) (fun k _ τ => kp [16, 26, 60] σ τ ∧ τ.2.1 60 = gd4 (dayO (env8 σ) (σ.2.1 36) (bi b) nm nc (σ.2.1 60)) (midV (σ.2.1 36) (bi b) nm nc (σ.2.1 60)) k) nm (by
    rintro k ⟨⟩ τ hk ⟨q1, q2⟩
    by_cases hb : ((dayO (env8 σ) (σ.2.1 36) (bi b) nm nc (σ.2.1 60) >>> (nI k &&& 31)) &&& 1) = 1
    · refine ⟨(), _, ⟨kp1 (j := 60) (g := upd (τ.2.1 60) (6 + k) (-1)) q1 (by decide), ?_⟩, fun r σ1 h => ?_⟩
      · show upA τ.2.1 60 _ 60 = (if _ then _ else _)
        rw [upA_s, if_pos hb, q2]
        rfl
      · refine g8_goDay_171 ⟨fun q => absurd q (by rw [q1.1, hR.1]; exact nI_ge hk (by omega)), fun _ => ⟨fun q => absurd hb q, fun _ => ⟨by rw [n6]; exact vin (by omega) (by decide), ?_⟩⟩⟩
        rw [nI_1, n6, cl (by omega)]
        exact h
    · refine ⟨(), τ, ⟨q1, ?_⟩, fun r σ1 h => ?_⟩
      · show _ = (if _ then _ else _)
        rw [if_neg hb, q2]
        rfl
      · refine g8_goDay_171 ⟨fun q => absurd q (by rw [q1.1, hR.1]; exact nI_ge hk (by omega)), fun _ => ⟨fun _ => ?_, fun q => absurd q hb⟩⟩
        rw [nI_1]
        exact h) 0 () τ3 (Nat.zero_le _) ⟨d3, d4⟩
  refine ⟨τ4, Tw8.ofR [.int (bi b), U_, U_] (by decide) (fun _ => rfl) (fun _ _ => Nat.le_of_ble_eq_true rfl) (g8_goDay_0 (a3 _ _ (g8_goDay_2 ⟨fun _ => b3 _ _ (g8_goDay_42 ⟨fun _ => ⟨_, _, c3, _, _, d1, ?_⟩, fun q => absurd (by rw [b1.1, hR.2.2.1]; exact nI_le (Nat.le_refl _) (by omega)) q⟩), fun q => absurd (by rw [a1.1, hR.1]; exact nI_le (Nat.le_refl _) (by omega)) q⟩))), f1, f2⟩
  have f4 := f3 _ _ (g8_goDay_171 ⟨fun _ => ⟨rfl, rfl⟩, fun q => absurd (by rw [f1.1, hR.1]; exact nI_le (Nat.le_refl _) (by omega)) q⟩)
  rw [← eo] at f4
  rw [← eo]
  exact f4
