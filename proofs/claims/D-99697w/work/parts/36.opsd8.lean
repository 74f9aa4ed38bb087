/-! the twin's public members: undo, redo, days -/
set_option maxRecDepth 100000
theorem undoM (d : Nat) (σ : S8) {a u : Nat} (ha : σ.1 62 = nI a) (hu : σ.1 63 = nI u) (h40 : a ≤ 40) :
    M8 mX8_undo (d + 2) [] σ (if a = 0 then 0 else 1) (if a = 0 then σ else exS (upd (upd σ.1 62 (nI (a - 1))) 63 (nI (u + 1)), σ.2) (a - 1)) := by
  by_cases h : a = 0
  · rw [if_pos h, if_pos h]
    exact ⟨σ, Tw8.ofR [] (by decide) (fun _ => rfl) (fun _ _ => Nat.le_of_ble_eq_true rfl) (g8_undo_0 ⟨fun q => absurd (by rw [ha, h]; rfl) q, fun _ => ⟨rfl, rfl⟩⟩), PK.rf⟩
  · rw [if_neg h, if_neg h]
    obtain ⟨a', rfl⟩ : ∃ a', a = a' + 1 := ⟨a - 1, by omega⟩
    rw [Nat.add_sub_cancel]
    have e1 : σ.1 62 - 1 = nI a' := by rw [ha]; exact nI_pred a'
    have e2 : σ.1 63 + 1 = nI (u + 1) := by rw [hu]; exact nI_1 u
    have hx := exchangeT8 d (upd (upd σ.1 62 (nI a')) 63 (nI (u + 1)), σ.2) a' (by omega)
    refine ⟨_, Tw8.ofR [] (by decide) (fun _ => rfl) (fun _ _ => Nat.le_of_ble_eq_true rfl) (g8_undo_0 ⟨fun _ => ⟨_, ?_, rfl, rfl⟩, fun q => absurd (by rw [ha] at q; exact q) (nI_ne0 (by omega) (by omega))⟩), PK.rf⟩
    rw [e1, e2]
    exact hx
theorem redoM (d : Nat) (σ : S8) {a u : Nat} (ha : σ.1 62 = nI a) (hu : σ.1 63 = nI u) (h40 : a + u ≤ 40) :
    M8 mX8_redo (d + 2) [] σ (if u = 0 then 0 else 1) (if u = 0 then σ else (upd (upd σ.1 62 (nI (a + 1))) 63 (nI (u - 1)), (exS σ a).2)) := by
  by_cases h : u = 0
  · rw [if_pos h, if_pos h]
    exact ⟨σ, Tw8.ofR [] (by decide) (fun _ => rfl) (fun _ _ => Nat.le_of_ble_eq_true rfl) (g8_redo_0 ⟨fun q => absurd (by rw [hu, h]; rfl) q, fun _ => ⟨rfl, rfl⟩⟩), PK.rf⟩
  · rw [if_neg h, if_neg h]
    obtain ⟨u', rfl⟩ : ∃ u', u = u' + 1 := ⟨u - 1, by omega⟩
    rw [Nat.add_sub_cancel]
    have hx := exchangeT8 d σ a (by omega)
    refine ⟨_, Tw8.ofR [] (by decide) (fun _ => rfl) (fun _ _ => Nat.le_of_ble_eq_true rfl) (g8_redo_0 ⟨fun _ => ⟨_, by rw [ha]; exact hx, rfl, rfl⟩, fun q => absurd (by rw [hu] at q; exact q) (nI_ne0 (by omega) (by omega))⟩), ?_⟩
    have e1 : (exS σ a).1 62 + 1 = nI (a + 1) := by show σ.1 62 + 1 = _; rw [ha]; exact nI_1 a
    have e2 : (exS σ a).1 63 - 1 = nI u' := by show σ.1 63 - 1 = _; rw [hu]; exact nI_pred u'
    rw [e1, e2]
    exact PK.rf
theorem R8.act {σ : S8} {nm nc a : Nat} (h : R8 σ nm nc) : R8 (actS σ a) nm nc := by
  have f : ∀ j, j ≠ 62 → j ≠ 63 → (actS σ a).1 j = σ.1 j := fun j h1 h2 => by
    show upd (upd σ.1 62 _) 63 0 j = _
    rw [upd_n h2, upd_n h1]
  have g : ∀ j, j ≠ 60 → j ≠ 61 → (actS σ a).2.1 j = σ.2.1 j := fun j h1 h2 => by
    show upA (upA σ.2.1 61 (actW (σ.2.1 61) (σ.2.1 59) a)) 60 (σ.2.1 59) j = _
    rw [upA_n h1, upA_n h2]
  refine ⟨by rw [f 48 (by decide) (by decide)]; exact h.1, h.2.1, by rw [f 49 (by decide) (by decide)]; exact h.2.2.1, h.2.2.2.1, fun q => ?_⟩
  rw [f 25 (by decide) (by decide)] at q
  obtain ⟨n, a1, b1⟩ := h.2.2.2.2 q
  exact ⟨n, by rw [f 18 (by decide) (by decide)]; exact a1, by rw [g 13 (by decide) (by decide), g 14 (by decide) (by decide)]; exact b1⟩
theorem actE {σ : S8} {a : Nat} : env8 (actS σ a) = env8 σ := by
  have f : ∀ j, j ≠ 62 → j ≠ 63 → (actS σ a).1 j = σ.1 j := fun j h1 h2 => by
    show upd (upd σ.1 62 _) 63 0 j = _
    rw [upd_n h2, upd_n h1]
  have g : ∀ j, j ≠ 60 → j ≠ 61 → (actS σ a).2.1 j = σ.2.1 j := fun j h1 h2 => by
    show upA (upA σ.2.1 61 (actW (σ.2.1 61) (σ.2.1 59) a)) 60 (σ.2.1 59) j = _
    rw [upA_n h1, upA_n h2]
  unfold env8
  rw [f 25 (by decide) (by decide), f 18 (by decide) (by decide), f 50 (by decide) (by decide), g 13 (by decide) (by decide), g 14 (by decide) (by decide), g 34 (by decide) (by decide)]
theorem actS_60 {σ : S8} {a : Nat} : (actS σ a).2.1 60 = σ.2.1 59 := by
  unfold actS
  show upA (upA σ.2.1 61 (actW (σ.2.1 61) (σ.2.1 59) a)) 60 (σ.2.1 59) 60 = σ.2.1 59
  rw [upA_s]
theorem actS_36 {σ : S8} {a : Nat} : (actS σ a).2.1 36 = σ.2.1 36 := by
  unfold actS
  show upA (upA σ.2.1 61 (actW (σ.2.1 61) (σ.2.1 59) a)) 60 (σ.2.1 59) 36 = σ.2.1 36
  rw [upA_n (by decide), upA_n (by decide)]
/-- the seed is drawn -/
def drw (v : Nat → Int32) : Nat → Int32 := upd v 38 (sd8 (v 38))
def drB (rain : Int32) (v : Nat → Int32) : Bool := rn8 rain (sd8 (v 38))
theorem okW_drw {v : Nat → Int32} {nm nc : Nat} (h6 : nm ≤ 6) (h : okW v nm nc) : okW (drw v) nm nc := by
  intro m hm
  unfold drw
  rw [upd_n (by omega)]
  exact h m hm
theorem dayM (d : Nat) (σ : S8) {nm nc a : Nat} (hR : R8 σ nm nc) (hW : okW (σ.2.1 59) nm nc) (ha : σ.1 62 = nI a) (h40 : a ≤ 40) :
    M8 mX8_day (d + 8) [] σ (if σ.2.1 59 37 = 999 then -1 else dayO (env8 σ) (σ.2.1 36) (bi (drB (σ.1 53) (σ.2.1 59))) nm nc (drw (σ.2.1 59))) (if σ.2.1 59 37 = 999 then σ else setN σ a (dayV (env8 σ) (σ.2.1 36) (bi (drB (σ.1 53) (σ.2.1 59))) nm nc (drw (σ.2.1 59)))) := by
  by_cases h : σ.2.1 59 37 = 999
  · rw [if_pos h, if_pos h]
    exact ⟨σ, Tw8.ofR [U_, U_] (by decide) (fun _ => rfl) (fun _ _ => Nat.le_of_ble_eq_true rfl) (g8_day_0 ⟨fun q => absurd h q, fun _ => ⟨rfl, rfl⟩⟩), PK.rf⟩
  · rw [if_neg h, if_neg h]
    have t1 := actT8 (d + 5) σ a ha h40
    have t2 := drawRainT8 (d + 6) (actS σ a)
    rw [actS_60] at t2
    have e53 : (actS σ a).1 53 = σ.1 53 := by show upd (upd σ.1 62 (nI (actA a + 1))) 63 0 53 = σ.1 53; rw [upd_n (by decide), upd_n (by decide)]
    rw [e53] at t2
    have k2 : kp [60] (actS σ a) (stA (actS σ a) 60 (drw (σ.2.1 59))) := stA_kp (by decide)
    obtain ⟨τ, q1, q2, q3⟩ := goDayT8 d (stA (actS σ a) 60 (drw (σ.2.1 59))) (drB (σ.1 53) (σ.2.1 59)) (hR.act.kp k2 (by decide) (by decide)) (by rw [stA_s]; exact okW_drw hR.2.1 hW)
    rw [stA_s, env8_kp k2 (by decide) (by decide) (by decide), actE, stA_n (by decide), actS_36] at q1 q3
    have t4 := keepX (d + 6) τ
    refine ⟨_, Tw8.ofR [U_, U_] (by decide) (fun _ => rfl) (fun _ _ => Nat.le_of_ble_eq_true rfl) (g8_day_0 ⟨fun _ => ⟨_, t1, _, _, t2, _, _, q1, _, t4, rfl, rfl⟩, fun q => absurd q h⟩), ?_⟩
    rw [q3]
    refine stPK ?_ 59 _
    exact (PK.of k2 (by decide)).tr (PK.of q2 (by decide))
/-- all behind k days, of rain as drawn (what = 1), or dry -/
def goV (e : E8) (grows : Nat → Int32) (rain what : Int32) (nm nc : Nat) (v : Nat → Int32) : Nat → Nat → Int32
  | 0 => v
  | k + 1 => if what = 1 then dayV e grows (bi (drB rain (goV e grows rain what nm nc v k))) nm nc (drw (goV e grows rain what nm nc v k)) else dayV e grows (bi false) nm nc (goV e grows rain what nm nc v k)
theorem goV_ok {e : E8} {grows v : Nat → Int32} {rain what : Int32} {nm nc : Nat} (h6 : nm ≤ 6) (hc : nc ≤ 6) (h : okW v nm nc) : ∀ k, okW (goV e grows rain what nm nc v k) nm nc := by
  intro k
  induction k with
  | zero => exact h
  | succ k ih =>
    show okW (if what = 1 then _ else _) nm nc
    split
    · exact dayV_ok h6 hc (okW_drw h6 ih)
    · exact dayV_ok h6 hc ih
theorem bi_bi (b : Bool) : (if bi b = 0 then (0 : Int32) else 1) = bi b := by cases b <;> rfl
theorem isIn_n {v : Int32} {N : Nat} (hN : N ≤ 1000) (h : ¬ s8_isIn v 0 (nI N) = 0) : ∃ j, j ≤ N ∧ v = nI j := by
  unfold s8_isIn at h
  by_cases h1 : v < 0
  · rw [if_pos h1] at h; exact absurd rfl h
  · rw [if_neg h1] at h
    by_cases h2 : nI N < v
    · rw [if_pos h2] at h; exact absurd rfl h
    · exact nI_of2 (nI_toInt (by omega)) h1 (i32_nlt.mp h2)
theorem willM (d : Nat) (σ : S8) (m n what : Int32) {nm nc : Nat} (hR : R8 σ nm nc) (hW : okW (σ.2.1 59) nm nc) :
    M8 mX8_will (d + 8) [.int m, .int n, .int what] σ (if idx m nm && (decide (¬ s8_isIn n 0 60 = 0) && decide (¬ s8_isIn what 0 1 = 0)) then goV (env8 σ) (σ.2.1 36) (σ.1 53) what nm nc (σ.2.1 59) n.toNatClampNeg (6 + m.toNatClampNeg) else -2) σ := by
  have h6 := hR.2.1
  have hc6 := hR.2.2.2.1
  have go : ∀ {r σ1}, _ → Tw8 mX8_will (d + 8) [.int m, .int n, .int what] σ r σ1 := fun h => Tw8.ofR [.int m, .int n, .int what, U_] (by decide) (fun _ => rfl) (fun _ _ => Nat.le_of_ble_eq_true rfl) (g8_will_0 ⟨_, _, isManT8 (d + 5) _ m hR, h⟩)
  cases h1 : idx m nm
  · exact ⟨_, go ⟨fun _ => ⟨rfl, rfl⟩, fun q => absurd (bi_f h1) q⟩, PK.rf⟩
  by_cases h2 : s8_isIn n 0 60 = 0
  · rw [decide_eq_false (fun q => q h2)]
    exact ⟨_, go ⟨fun q => absurd q (bi_t h1), fun _ => ⟨fun _ => ⟨rfl, rfl⟩, fun q => absurd h2 q⟩⟩, PK.rf⟩
  by_cases h3 : s8_isIn what 0 1 = 0
  · rw [decide_eq_true h2, decide_eq_false (fun q => q h3)]
    exact ⟨_, go ⟨fun q => absurd q (bi_t h1), fun _ => ⟨fun q => absurd q h2, fun _ => ⟨fun q => absurd h3 q, fun _ => ⟨rfl, rfl⟩⟩⟩⟩, PK.rf⟩
  rw [decide_eq_true h2, decide_eq_true h3]
  obtain ⟨m', hm, em⟩ := idx_of h1 (by omega)
  obtain ⟨n', hn, en⟩ := isIn_n (N := 60) (by decide) h2
  have em' : m.toNatClampNeg = m' := by rw [em]; exact cl (by omega)
  have en' : n.toNatClampNeg = n' := by rw [en]; exact cl (by omega)
  have e6 : (6 + m).toNatClampNeg = 6 + m' := by rw [em, n6]; exact cl (by omega)
  rw [em', en']
  obtain ⟨_, τ, ⟨a1, a2⟩, a3⟩ := iter8 (A := Unit) (fun k _ τ r σ1 => Rn8 mX8_will (d + 8) 37 [.int m, .int n, .int what, .int (nI k)] (fun _ => []) τ r σ1) (fun k _ τ => kp [16, 26, 60] σ τ ∧ τ.2.1 60 = goV (env8 σ) (σ.2.1 36) (σ.1 53) what nm nc (σ.2.1 59) k) n' (by
    rintro k ⟨⟩ τ hk ⟨q1, q2⟩
    have hR1 := hR.kp q1 (by decide) (by decide)
    have ok := goV_ok (e := env8 σ) (grows := σ.2.1 36) (rain := σ.1 53) (what := what) h6 hc6 hW k
    have hex : ¬ n ≤ nI k := by rw [en]; exact nI_ge hk (by omega)
    by_cases w1 : what = 1
    · have t2 := drawRainT8 (d + 6) τ
      rw [q2, q1.1] at t2
      have k2 : kp [16, 26, 60] τ (stA τ 60 (drw (goV (env8 σ) (σ.2.1 36) (σ.1 53) what nm nc (σ.2.1 59) k))) := stA_kp (by decide)
      obtain ⟨τ1, p1, p2, p3⟩ := goDayT8 d (stA τ 60 (drw (goV (env8 σ) (σ.2.1 36) (σ.1 53) what nm nc (σ.2.1 59) k))) (drB (σ.1 53) (goV (env8 σ) (σ.2.1 36) (σ.1 53) what nm nc (σ.2.1 59) k)) (hR1.kp k2 (by decide) (by decide)) (by rw [stA_s]; exact okW_drw h6 ok)
      rw [stA_s, env8_kp k2 (by decide) (by decide) (by decide), env8_kp q1 (by decide) (by decide) (by decide), stA_n (by decide), q1.2.2 36 (by decide)] at p1 p3
      refine ⟨(), τ1, ⟨(q1.tr k2).tr p2, ?_⟩, fun r σ1 h => ?_⟩
      · rw [p3]
        show _ = if what = 1 then _ else _
        rw [if_pos w1]
      · refine g8_will_37 ⟨fun q => absurd q hex, fun _ => ⟨fun q => absurd w1 q, fun _ => ⟨_, _, t2, dayO (env8 σ) (σ.2.1 36) (bi (drB (σ.1 53) (goV (env8 σ) (σ.2.1 36) (σ.1 53) what nm nc (σ.2.1 59) k))) nm nc (drw (goV (env8 σ) (σ.2.1 36) (σ.1 53) what nm nc (σ.2.1 59) k)), τ1, ?_, by rw [nI_1]; exact h⟩⟩⟩
        rw [bi_bi]
        exact p1
    · obtain ⟨τ1, p1, p2, p3⟩ := goDayT8 d τ false hR1 (by rw [q2]; exact ok)
      rw [q2, env8_kp q1 (by decide) (by decide) (by decide), q1.2.2 36 (by decide)] at p1 p3
      refine ⟨(), τ1, ⟨q1.tr p2, ?_⟩, fun r σ1 h => ?_⟩
      · rw [p3]
        show _ = if what = 1 then _ else _
        rw [if_neg w1]
      · exact g8_will_37 ⟨fun q => absurd q hex, fun _ => ⟨fun _ => ⟨_, _, p1, by rw [nI_1]; exact h⟩, fun q => absurd q w1⟩⟩) 0 () (stA σ 60 (σ.2.1 59)) (Nat.zero_le _) ⟨stA_kp (by decide), stA_s⟩
  refine ⟨τ, go ⟨fun q => absurd q (bi_t h1), fun _ => ⟨fun q => absurd q h2, fun _ => ⟨fun _ => ⟨_, fillX (d + 6) σ, a3 _ _ (g8_will_37 ⟨fun _ => ⟨by rw [em, n6]; exact vin (by omega) (by decide), ?_, rfl⟩, fun q => absurd (by rw [en]; exact nI_le (Nat.le_refl _) (by omega)) q⟩)⟩, fun q => absurd q h3⟩⟩⟩, PK.of a1 (by decide)⟩
  rw [e6, a2]
  rfl
/-- the first from k on of so many -/
def first8 (p : Nat → Bool) : Nat → Nat → Int32
  | 0, _ => -1
  | n + 1, k => if p k then nI k else first8 p n (k + 1)
theorem outM (d : Nat) (σ : S8) (m : Int32) {nm nc : Nat} (hR : R8 σ nm nc) (hW : okW (σ.2.1 59) nm nc) :
    M8 mX8_out (d + 8) [.int m] σ (if idx m nm then first8 (fun k => decide (¬ 0 ≤ goV (env8 σ) (σ.2.1 36) (σ.1 53) 0 nm nc (σ.2.1 59) k (6 + m.toNatClampNeg))) 61 0 else -1) σ := by
  have h6 := hR.2.1
  have hc6 := hR.2.2.2.1
  have go : ∀ {r σ1}, _ → Tw8 mX8_out (d + 8) [.int m] σ r σ1 := fun h => Tw8.ofR [.int m, U_] (by decide) (fun _ => rfl) (fun _ _ => Nat.le_of_ble_eq_true rfl) (g8_out_0 ⟨_, _, isManT8 (d + 5) _ m hR, h⟩)
  cases h1 : idx m nm
  · exact ⟨_, go ⟨fun q => absurd (bi_f h1) q, fun _ => ⟨rfl, rfl⟩⟩, PK.rf⟩
  obtain ⟨m', hm, em⟩ := idx_of h1 (by omega)
  have em' : m.toNatClampNeg = m' := by rw [em]; exact cl (by omega)
  have e6 : (6 + m).toNatClampNeg = 6 + m' := by rw [em, n6]; exact cl (by omega)
  have b6 : vp_in (6 + m) 39 := by rw [em, n6]; exact vin (by omega) (by decide)
  rw [em']
  generalize hp : (fun k => decide (¬ 0 ≤ goV (env8 σ) (σ.2.1 36) (σ.1 53) 0 nm nc (σ.2.1 59) k (6 + m'))) = p
  have hpk : ∀ k, p k = decide (¬ 0 ≤ goV (env8 σ) (σ.2.1 36) (σ.1 53) 0 nm nc (σ.2.1 59) k (6 + m')) := fun k => by rw [← hp]
  have key := iter8e (A := Unit) (fun k _ τ r σ1 => Rn8 mX8_out (d + 8) 16 [.int m, .int (nI k)] (fun _ => []) τ r σ1) (fun k _ τ => kp [16, 26, 60] σ τ ∧ τ.2.1 60 = goV (env8 σ) (σ.2.1 36) (σ.1 53) 0 nm nc (σ.2.1 59) k ∧ first8 p 61 0 = first8 p (61 - k) k) (fun r σ1 => r = some (.int (first8 p 61 0)) ∧ kp [16, 26, 60] σ σ1) 61 (by
    rintro k ⟨⟩ τ hk ⟨q1, q2, q3⟩
    have hR1 := hR.kp q1 (by decide) (by decide)
    have ok := goV_ok (e := env8 σ) (grows := σ.2.1 36) (rain := σ.1 53) (what := 0) h6 hc6 hW k
    have hex : ¬ 60 < nI k := nI_nlt (b := 60) (a := k) |> fun _ => by
      rw [i32_nlt]; exact nI_le (b := 60) (by omega) (by decide)
    have es : first8 p (61 - k) k = if p k then nI k else first8 p (61 - (k + 1)) (k + 1) := by
      rw [show 61 - k = (61 - (k + 1)) + 1 by omega]
      rfl
    by_cases hb : 0 ≤ goV (env8 σ) (σ.2.1 36) (σ.1 53) 0 nm nc (σ.2.1 59) k (6 + m')
    · obtain ⟨τ1, p1, p2, p3⟩ := goDayT8 d τ false hR1 (by rw [q2]; exact ok)
      rw [q2, env8_kp q1 (by decide) (by decide) (by decide), q1.2.2 36 (by decide)] at p1 p3
      refine Or.inl ⟨(), τ1, ⟨q1.tr p2, p3, ?_⟩, fun r σ1 h => ?_⟩
      · rw [q3, es, if_neg (by rw [hpk]; simp [hb])]
      · exact g8_out_16 ⟨fun q => absurd q hex, fun _ => ⟨b6, fun _ => ⟨_, _, p1, by rw [nI_1]; exact h⟩, fun q => absurd (by rw [e6, q2]; exact hb) q⟩⟩
    · refine Or.inr ⟨_, τ, g8_out_16 ⟨fun q => absurd q hex, fun _ => ⟨b6, fun q => absurd (by rw [e6, q2] at q; exact q) hb, fun _ => ⟨rfl, rfl⟩⟩⟩, ?_, q1⟩
      rw [q3, es, if_pos (by rw [hpk]; exact decide_eq_true hb)]) 0 () (stA σ 60 (σ.2.1 59)) (Nat.zero_le _) ⟨stA_kp (by decide), stA_s, rfl⟩
  rcases key with ⟨_, τ, ⟨a1, a2, a4⟩, a3⟩ | ⟨r, σ1, b1, b2, b3⟩
  · refine ⟨τ, go ⟨fun _ => ⟨_, fillX (d + 6) σ, a3 _ _ (g8_out_16 ⟨fun _ => ⟨?_, rfl⟩, fun q => absurd (by decide) q⟩)⟩, fun q => absurd q (bi_t h1)⟩, PK.of a1 (by decide)⟩
    rw [if_pos rfl, a4]
    rfl
  · subst b2
    exact ⟨σ1, go ⟨fun _ => ⟨_, fillX (d + 6) σ, b1⟩, fun q => absurd q (bi_t h1)⟩, PK.of b3 (by decide)⟩
theorem routM (d : Nat) (σ : S8) {nm nc : Nat} (hR : R8 σ nm nc) (hW : okW (σ.2.1 59) nm nc) :
    M8 mX8_rout (d + 8) [] σ (first8 (fun k => decide (wearers8 (goV (env8 σ) (σ.2.1 36) (σ.1 53) 0 nm nc (σ.2.1 59) k) nm = 0)) 61 0) σ := by
  have h6 := hR.2.1
  have hc6 := hR.2.2.2.1
  generalize hp : (fun k => decide (wearers8 (goV (env8 σ) (σ.2.1 36) (σ.1 53) 0 nm nc (σ.2.1 59) k) nm = 0)) = p
  have hpk : ∀ k, p k = decide (wearers8 (goV (env8 σ) (σ.2.1 36) (σ.1 53) 0 nm nc (σ.2.1 59) k) nm = 0) := fun k => by rw [← hp]
  have key := iter8e (A := Unit) (fun k _ τ r σ1 => Rn8 mX8_rout (d + 8) 6 [.int (nI k)] (fun _ => []) τ r σ1) (fun k _ τ => kp [16, 26, 60] σ τ ∧ τ.2.1 60 = goV (env8 σ) (σ.2.1 36) (σ.1 53) 0 nm nc (σ.2.1 59) k ∧ first8 p 61 0 = first8 p (61 - k) k) (fun r σ1 => r = some (.int (first8 p 61 0)) ∧ kp [16, 26, 60] σ σ1) 61 (by
    rintro k ⟨⟩ τ hk ⟨q1, q2, q3⟩
    have hR1 := hR.kp q1 (by decide) (by decide)
    have ok := goV_ok (e := env8 σ) (grows := σ.2.1 36) (rain := σ.1 53) (what := 0) h6 hc6 hW k
    have hex : ¬ 60 < nI k := by rw [i32_nlt]; exact nI_le (b := 60) (by omega) (by decide)
    have es : first8 p (61 - k) k = if p k then nI k else first8 p (61 - (k + 1)) (k + 1) := by
      rw [show 61 - k = (61 - (k + 1)) + 1 by omega]
      rfl
    have tw := wearersT8 (d + 5) τ nm hR1.1 h6
    rw [q2] at tw
    by_cases hb : wearers8 (goV (env8 σ) (σ.2.1 36) (σ.1 53) 0 nm nc (σ.2.1 59) k) nm = 0
    · refine Or.inr ⟨_, τ, g8_rout_6 ⟨fun q => absurd q hex, fun _ => ⟨_, _, tw, fun q => absurd hb q, fun _ => ⟨rfl, rfl⟩⟩⟩, ?_, q1⟩
      rw [q3, es, if_pos (by rw [hpk]; exact decide_eq_true hb)]
    · obtain ⟨τ1, p1, p2, p3⟩ := goDayT8 d τ false hR1 (by rw [q2]; exact ok)
      rw [q2, env8_kp q1 (by decide) (by decide) (by decide), q1.2.2 36 (by decide)] at p1 p3
      refine Or.inl ⟨(), τ1, ⟨q1.tr p2, p3, ?_⟩, fun r σ1 h => ?_⟩
      · rw [q3, es, if_neg (by rw [hpk, decide_eq_false hb]; decide)]
      · exact g8_rout_6 ⟨fun q => absurd q hex, fun _ => ⟨_, _, tw, fun _ => ⟨_, _, p1, by rw [nI_1]; exact h⟩, fun q => absurd q hb⟩⟩) 0 () (stA σ 60 (σ.2.1 59)) (Nat.zero_le _) ⟨stA_kp (by decide), stA_s, rfl⟩
  rcases key with ⟨_, τ, ⟨a1, a2, a4⟩, a3⟩ | ⟨r, σ1, b1, b2, b3⟩
  · refine ⟨τ, Tw8.ofR [U_] (by decide) (fun _ => rfl) (fun _ _ => Nat.le_of_ble_eq_true rfl) (g8_rout_0 ⟨_, fillX (d + 6) σ, a3 _ _ (g8_rout_6 ⟨fun _ => ⟨?_, rfl⟩, fun q => absurd (by decide) q⟩)⟩), PK.of a1 (by decide)⟩
    rw [a4]
    rfl
  · subst b2
    exact ⟨σ1, Tw8.ofR [U_] (by decide) (fun _ => rfl) (fun _ _ => Nat.le_of_ble_eq_true rfl) (g8_rout_0 ⟨_, fillX (d + 6) σ, b1⟩), PK.of b3 (by decide)⟩
