/-! the twin's public members: sewing -/
set_option maxRecDepth 100000
def pick (w a b c : Int32) : Int32 := if w = 0 then a else if w = 1 then b else c
def sewT (e : E8) (v : Nat → Int32) (m c mi mo : Nat) (w : Int32) (all hem : Nat) : Option Int32 :=
  if all - hem ≤ mi ∧ sewB e v m c (nI hem) (nI (all - hem)) = true then some (pick w (nI all) (nI hem) (nI (all - hem)))
  else if 0 < all - hem ∧ all - hem ≤ mo ∧ sewB e v m c (nI hem) (-nI (all - hem)) = true then some (pick w (nI all) (nI hem) (-nI (all - hem))) else none
/-- the first that is found, of n from k on -/
def fo (g : Nat → Option Int32) : Nat → Nat → Option Int32
  | 0, _ => none
  | n + 1, k => match g k with
    | some x => some x
    | none => fo g n (k + 1)
theorem fo_s {g : Nat → Option Int32} {n k : Nat} {x : Int32} (h : g k = some x) : fo g (n + 1) k = some x := by
  show (match g k with | some x => some x | none => fo g n (k + 1)) = _
  rw [h]
theorem fo_n {g : Nat → Option Int32} {n k : Nat} (h : g k = none) : fo g (n + 1) k = fo g n (k + 1) := by
  show (match g k with | some x => some x | none => fo g n (k + 1)) = _
  rw [h]
theorem les_nI {a b : Nat} (ha : a < 100000) (hb : b < 100000) : s8_lesser (nI a) (nI b) = nI (min a b) := by
  unfold s8_lesser
  by_cases h : a < b
  · rw [Nat.min_eq_left (by omega)]
    split
    · rename_i q
      exact absurd q (nI_ge h (by omega))
    · rfl
  · rw [Nat.min_eq_right (by omega)]
    split
    · rfl
    · rename_i q
      exact absurd (nI_le (by omega) (by omega)) q
theorem sewIn (d : Nat) (σ : S8) (w : Int32) {nm nc m c mh mi mo all : Nat} (hR : R8 σ nm nc) (hm : m < 6) (hc : c < 6) (hmh : mh ≤ 99) (hmi : mi ≤ 99) (hmo : mo ≤ 99) (ha : all ≤ 40) :
    (∃ τ, kp [16, 26, 60] σ τ ∧ fo (sewT (env8 σ) (σ.2.1 59) m c mi mo w all) (min all mh + 1) 0 = none ∧ ∀ r σ1, Rn8 mX8_sewing (d + 5) 104 [.int (nI c), .int (nI m), .int w, .int (nI mh), .int (nI mi), .int (nI mo), .int (nI all), .int (nI (min all mh + 1)), U_] (fun _ => []) τ r σ1 → Rn8 mX8_sewing (d + 5) 104 [.int (nI c), .int (nI m), .int w, .int (nI mh), .int (nI mi), .int (nI mo), .int (nI all), .int (nI 0), U_] (fun _ => []) σ r σ1) ∨
    ∃ r σ1, Rn8 mX8_sewing (d + 5) 104 [.int (nI c), .int (nI m), .int w, .int (nI mh), .int (nI mi), .int (nI mo), .int (nI all), .int (nI 0), U_] (fun _ => []) σ r σ1 ∧ ∃ x, r = some (.int x) ∧ fo (sewT (env8 σ) (σ.2.1 59) m c mi mo w all) (min all mh + 1) 0 = some x ∧ kp [16, 26, 60] σ σ1 := by
  have hmin : min all mh ≤ all := Nat.min_le_left _ _
  generalize hg : sewT (env8 σ) (σ.2.1 59) m c mi mo w all = g
  have hgk : ∀ k, g k = sewT (env8 σ) (σ.2.1 59) m c mi mo w all k := fun k => by rw [← hg]
  rcases iter8e (A := Unit) (fun k _ τ r σ1 => Rn8 mX8_sewing (d + 5) 104 [.int (nI c), .int (nI m), .int w, .int (nI mh), .int (nI mi), .int (nI mo), .int (nI all), .int (nI k), U_] (fun _ => []) τ r σ1) (fun k _ τ => kp [16, 26, 60] σ τ ∧ fo g (min all mh + 1) 0 = fo g (min all mh + 1 - k) k) (fun r σ1 => ∃ x, r = some (.int x) ∧ fo g (min all mh + 1) 0 = some x ∧ kp [16, 26, 60] σ σ1) (min all mh + 1) (by
    rintro k ⟨⟩ τ hk ⟨q1, q2⟩
    have hka : k ≤ all := by omega
    have er : (nI all - nI k : Int32) = nI (all - k) := pk_sub hka
    have eN : min all mh + 1 - k = (min all mh + 1 - (k + 1)) + 1 := by omega
    have hR1 := hR.kp q1 (by decide) (by decide)
    have hex : ¬ s8_lesser (nI all) (nI mh) < nI k := by rw [les_nI (by omega) (by omega), i32_nlt]; exact nI_le (by omega) (by omega)
    -- the second try, from any state
    have second : ∀ τ1, kp [16, 26, 60] σ τ1 → ¬ (all - k ≤ mi ∧ sewB (env8 σ) (σ.2.1 59) m c (nI k) (nI (all - k)) = true) →
        (∃ τ2, (kp [16, 26, 60] σ τ2 ∧ fo g (min all mh + 1) 0 = fo g (min all mh + 1 - (k + 1)) (k + 1)) ∧ ∀ r σ1, Rn8 mX8_sewing (d + 5) 104 [.int (nI c), .int (nI m), .int w, .int (nI mh), .int (nI mi), .int (nI mo), .int (nI all), .int (nI (k + 1)), U_] (fun _ => []) τ2 r σ1 → Rn8 mX8_sewing (d + 5) 165 [.int (nI c), .int (nI m), .int w, .int (nI mh), .int (nI mi), .int (nI mo), .int (nI all), .int (nI k), .int (nI (all - k))] (fun _ => []) τ1 r σ1) ∨
        ∃ r σ1, Rn8 mX8_sewing (d + 5) 165 [.int (nI c), .int (nI m), .int w, .int (nI mh), .int (nI mi), .int (nI mo), .int (nI all), .int (nI k), .int (nI (all - k))] (fun _ => []) τ1 r σ1 ∧ ∃ x, r = some (.int x) ∧ fo g (min all mh + 1) 0 = some x ∧ kp [16, 26, 60] σ σ1 := by
      intro τ1 p1 hno
      by_cases z : all - k = 0
      · have hn : g k = none := by
          rw [hgk]; unfold sewT; rw [if_neg hno, if_neg (by omega)]
        exact Or.inl ⟨τ1, ⟨p1, by rw [q2, eN, fo_n hn]⟩, fun r σ1 h => g8_sewing_165 ⟨fun _ => by rw [nI_1]; exact h, fun q => absurd (by rw [z]; decide) q⟩⟩
      by_cases y : all - k ≤ mo
      · obtain ⟨τ2, t1, t2⟩ := isSewnT8 d τ1 (nI k) (-nI (all - k)) (hR.kp p1 (by decide) (by decide)) hm hc
        rw [env8_kp p1 (by decide) (by decide) (by decide), p1.2.2 59 (by decide)] at t1
        cases hb : sewB (env8 σ) (σ.2.1 59) m c (nI k) (-nI (all - k))
        · have hn : g k = none := by
            rw [hgk]; unfold sewT; rw [if_neg hno, if_neg (by rw [hb]; simp)]
          exact Or.inl ⟨τ2, ⟨p1.tr t2, by rw [q2, eN, fo_n hn]⟩, fun r σ1 h => g8_sewing_165 ⟨fun q => absurd q (nI_nle (by omega) (by omega)), fun _ => ⟨fun q => absurd q (by rw [i32_nlt]; exact nI_le y (by omega)), fun _ => ⟨_, _, t1, fun _ => by rw [nI_1]; exact h, fun q => absurd (bi_f hb) q⟩⟩⟩⟩
        · have hn : g k = some (pick w (nI all) (nI k) (-nI (all - k))) := by
            rw [hgk]; unfold sewT; rw [if_neg hno, if_pos ⟨by omega, y, hb⟩]
          exact Or.inr ⟨_, τ2, g8_sewing_165 ⟨fun q => absurd q (nI_nle (by omega) (by omega)), fun _ => ⟨fun q => absurd q (by rw [i32_nlt]; exact nI_le y (by omega)), fun _ => ⟨_, _, t1, fun q => absurd q (bi_t hb), fun _ => ⟨rfl, rfl⟩⟩⟩⟩, _, rfl, by rw [q2, eN, fo_s hn]; rfl, p1.tr t2⟩
      · have hn : g k = none := by
          rw [hgk]; unfold sewT; rw [if_neg hno, if_neg (fun u => y u.2.1)]
        exact Or.inl ⟨τ1, ⟨p1, by rw [q2, eN, fo_n hn]⟩, fun r σ1 h => g8_sewing_165 ⟨fun q => absurd q (nI_nle (by omega) (by omega)), fun _ => ⟨fun _ => by rw [nI_1]; exact h, fun q => absurd (nI_lt (by omega) (by omega)) q⟩⟩⟩
    by_cases x : all - k ≤ mi
    · obtain ⟨τ1, t1, t2⟩ := isSewnT8 d τ (nI k) (nI (all - k)) hR1 hm hc
      rw [env8_kp q1 (by decide) (by decide) (by decide), q1.2.2 59 (by decide)] at t1
      have hx : ¬ nI mi < (nI all - nI k : Int32) := by rw [er, i32_nlt]; exact nI_le x (by omega)
      cases hb : sewB (env8 σ) (σ.2.1 59) m c (nI k) (nI (all - k))
      · rcases second τ1 (q1.tr t2) (by rw [hb]; simp) with ⟨τ2, s1, s2⟩ | ⟨r, σ1, s1, s2⟩
        · exact Or.inl ⟨(), τ2, s1, fun r σ1 h => g8_sewing_104 ⟨fun q => absurd q hex, fun _ => ⟨fun q => absurd q hx, fun _ => ⟨_, _, by rw [er]; exact t1, fun _ => by rw [er]; exact s2 r σ1 h, fun q => absurd (bi_f hb) q⟩⟩⟩⟩
        · exact Or.inr ⟨r, σ1, g8_sewing_104 ⟨fun q => absurd q hex, fun _ => ⟨fun q => absurd q hx, fun _ => ⟨_, _, by rw [er]; exact t1, fun _ => by rw [er]; exact s1, fun q => absurd (bi_f hb) q⟩⟩⟩, s2⟩
      · have hn : g k = some (pick w (nI all) (nI k) (nI (all - k))) := by
          rw [hgk]; unfold sewT; rw [if_pos ⟨x, hb⟩]
        refine Or.inr ⟨_, τ1, g8_sewing_104 ⟨fun q => absurd q hex, fun _ => ⟨fun q => absurd q hx, fun _ => ⟨_, _, by rw [er]; exact t1, fun q => absurd q (bi_t hb), fun _ => ⟨rfl, rfl⟩⟩⟩⟩, _, rfl, ?_, q1.tr t2⟩
        rw [q2, eN, fo_s hn, er]
        rfl
    · have hx : nI mi < (nI all - nI k : Int32) := by rw [er]; exact nI_lt (by omega) (by omega)
      rcases second τ q1 (fun u => x u.1) with ⟨τ2, s1, s2⟩ | ⟨r, σ1, s1, s2⟩
      · exact Or.inl ⟨(), τ2, s1, fun r σ1 h => g8_sewing_104 ⟨fun q => absurd q hex, fun _ => ⟨fun _ => by rw [er]; exact s2 r σ1 h, fun q => absurd hx q⟩⟩⟩
      · exact Or.inr ⟨r, σ1, g8_sewing_104 ⟨fun q => absurd q hex, fun _ => ⟨fun _ => by rw [er]; exact s1, fun q => absurd hx q⟩⟩, s2⟩) 0 () σ (Nat.zero_le _) ⟨kp.rf, rfl⟩ with ⟨_, τ, ⟨a1, a2⟩, a3⟩ | h
  · refine Or.inl ⟨τ, a1, ?_, a3⟩
    rw [a2, Nat.sub_self]
    rfl
  · exact Or.inr h
/-- how it can be sewn -/
def sewE (e : E8) (v : Nat → Int32) (m c mh mi mo : Nat) (w : Int32) : Int32 := (fo (fun all => fo (sewT e v m c mi mo w all) (min all mh + 1) 0) 41 0).getD (-100)
theorem sewingM (d : Nat) (σ : S8) (c m w : Int32) {nm nc : Nat} (hR : R8 σ nm nc) (hr : ∀ j, j < nc → ∃ t wd se : Nat, t ≤ 99 ∧ wd ≤ 99 ∧ se ≤ 99 ∧ σ.2.1 59 (12 + j) = nI t ∧ σ.2.1 59 (18 + j) = nI wd ∧ σ.2.1 59 (24 + j) = nI se) :
    M8 mX8_sewing (d + 5) [.int c, .int m, .int w] σ (if idx c nc && (idx m nm && decide (¬ s8_isIn w 0 2 = 0)) then sewE (env8 σ) (σ.2.1 59) m.toNatClampNeg c.toNatClampNeg (min 20 (σ.2.1 59 (12 + c.toNatClampNeg)).toNatClampNeg) (min 20 (σ.2.1 59 (18 + c.toNatClampNeg)).toNatClampNeg) (min (min 20 (σ.2.1 59 (24 + c.toNatClampNeg)).toNatClampNeg) (99 - (σ.2.1 59 (18 + c.toNatClampNeg)).toNatClampNeg)) w else -100) σ := by
  have h6 := hR.2.1
  have hc6 := hR.2.2.2.1
  have go : ∀ {r σ1}, _ → Tw8 mX8_sewing (d + 5) [.int c, .int m, .int w] σ r σ1 := fun h => Tw8.ofR [.int c, .int m, .int w, U_, U_, U_, U_, U_, U_] (by decide) (fun _ => rfl) (fun _ _ => Nat.le_of_ble_eq_true rfl) (g8_sewing_0 ⟨_, _, isCoatT8 (d + 2) _ c hR, h⟩)
  cases h1 : idx c nc
  · exact ⟨_, go ⟨fun _ => ⟨rfl, rfl⟩, fun q => absurd (bi_f h1) q⟩, PK.rf⟩
  cases h2 : idx m nm
  · exact ⟨_, go ⟨fun q => absurd q (bi_t h1), fun _ => ⟨_, _, isManT8 (d + 2) _ m hR, fun _ => ⟨rfl, rfl⟩, fun q => absurd (bi_f h2) q⟩⟩, PK.rf⟩
  by_cases h3 : s8_isIn w 0 2 = 0
  · rw [decide_eq_false (fun q => q h3)]
    exact ⟨_, go ⟨fun q => absurd q (bi_t h1), fun _ => ⟨_, _, isManT8 (d + 2) _ m hR, fun q => absurd q (bi_t h2), fun _ => ⟨fun q => absurd h3 q, fun _ => ⟨rfl, rfl⟩⟩⟩⟩, PK.rf⟩
  rw [decide_eq_true h3]
  obtain ⟨c', hc, ec⟩ := idx_of h1 (by omega)
  obtain ⟨m', hm, em⟩ := idx_of h2 (by omega)
  have cc : c.toNatClampNeg = c' := by rw [ec]; exact cl (by omega)
  have cm : m.toNatClampNeg = m' := by rw [em]; exact cl (by omega)
  obtain ⟨t, wd, se, ht, hwd, hse, e1, e2, e3⟩ := hr c' hc
  rw [cc, cm, e1, e2, e3, cl (by omega), cl (by omega), cl (by omega)]
  have c12 : (12 + c : Int32).toNatClampNeg = 12 + c' := by rw [ec, n12]; exact cl (by omega)
  have c18 : (18 + c : Int32).toNatClampNeg = 18 + c' := by rw [ec, n18]; exact cl (by omega)
  have c24 : (24 + c : Int32).toNatClampNeg = 24 + c' := by rw [ec, n24]; exact cl (by omega)
  have m1 : s8_lesser 20 (nI t) = nI (min 20 t) := les_nI (a := 20) (by decide) (by omega)
  have m2 : s8_lesser 20 (nI wd) = nI (min 20 wd) := les_nI (a := 20) (by decide) (by omega)
  have m3 : s8_lesser (s8_lesser 20 (nI se)) (99 - nI wd) = nI (min (min 20 se) (99 - wd)) := by
    have a1 : s8_lesser 20 (nI se) = nI (min 20 se) := les_nI (a := 20) (by decide) (by omega)
    have a2 : (99 : Int32) - nI wd = nI (99 - wd) := pk_sub (a := 99) hwd
    rw [a1, a2]
    exact les_nI (by omega) (by omega)
  generalize hmh : min 20 t = mh at m1
  generalize hmi : min 20 wd = mi at m2
  generalize hmo : min (min 20 se) (99 - wd) = mo at m3
  have bmh : mh ≤ 99 := by omega
  have bmi : mi ≤ 99 := by omega
  have bmo : mo ≤ 99 := by omega
  rw [ec, em] at go ⊢
  have b12 : vp_in (12 + nI c') 39 := by rw [n12]; exact vin (by omega) (by decide)
  have b18 : vp_in (18 + nI c') 39 := by rw [n18]; exact vin (by omega) (by decide)
  have b24 : vp_in (24 + nI c') 39 := by rw [n24]; exact vin (by omega) (by decide)
  rw [ec] at c12 c18 c24 h1
  rw [em] at h2
  have go2 : ∀ {r σ1}, Rn8 mX8_sewing (d + 5) 94 [.int (nI c'), .int (nI m'), .int w, .int (nI mh), .int (nI mi), .int (nI mo), .int (nI 0), U_, U_] (fun _ => []) σ r σ1 → Tw8 mX8_sewing (d + 5) [.int (nI c'), .int (nI m'), .int w] σ r σ1 := fun h => go ⟨fun q => absurd q (bi_t h1), fun _ => ⟨_, _, isManT8 (d + 2) _ (nI m') hR, fun q => absurd q (bi_t h2), fun _ => ⟨fun _ => ⟨b12, b18, b24, by rw [c12, c18, c24, e1, e2, e3, m1, m2, m3]; exact h⟩, fun q => absurd q h3⟩⟩⟩
  generalize hG : (fun all => fo (sewT (env8 σ) (σ.2.1 59) m' c' mi mo w all) (min all mh + 1) 0) = G9
  have hGk : ∀ k, G9 k = fo (sewT (env8 σ) (σ.2.1 59) m' c' mi mo w k) (min k mh + 1) 0 := fun k => by rw [← hG]
  have hE : sewE (env8 σ) (σ.2.1 59) m' c' mh mi mo w = (fo G9 41 0).getD (-100) := by unfold sewE; rw [hG]
  rw [hE]
  rcases iter8e (A := Unit) (fun k _ τ r σ1 => Rn8 mX8_sewing (d + 5) 94 [.int (nI c'), .int (nI m'), .int w, .int (nI mh), .int (nI mi), .int (nI mo), .int (nI k), U_, U_] (fun _ => []) τ r σ1) (fun k _ τ => kp [16, 26, 60] σ τ ∧ fo G9 41 0 = fo G9 (41 - k) k) (fun r σ1 => ∃ x, r = some (.int x) ∧ fo G9 41 0 = some x ∧ kp [16, 26, 60] σ σ1) 41 (by
    rintro k ⟨⟩ τ hk ⟨q1, q2⟩
    have eN : 41 - k = (41 - (k + 1)) + 1 := by omega
    have hex : ¬ 40 < nI k := by rw [i32_nlt]; exact nI_le (b := 40) (by omega) (by decide)
    have hin := sewIn d τ w (m := m') (c := c') (mh := mh) (mi := mi) (mo := mo) (all := k) (hR.kp q1 (by decide) (by decide)) (by omega) (by omega) bmh bmi bmo (by omega)
    rw [env8_kp q1 (by decide) (by decide) (by decide), q1.2.2 59 (by decide), ← hGk] at hin
    rcases hin with ⟨τ1, s1, s2, s3⟩ | ⟨r, σ1, s1, x, s2, s3, s4⟩
    · refine Or.inl ⟨(), τ1, ⟨q1.tr s1, by rw [q2, eN, fo_n s2]⟩, fun r σ1 h => ?_⟩
      refine g8_sewing_94 ⟨fun q => absurd q hex, fun _ => s3 _ _ (g8_sewing_104 ⟨fun _ => by rw [nI_1]; exact h, fun q => absurd ?_ q⟩)⟩
      rw [les_nI (by omega) (by omega)]
      exact nI_lt (by omega) (by omega)
    · exact Or.inr ⟨r, σ1, g8_sewing_94 ⟨fun q => absurd q hex, fun _ => s1⟩, x, s2, by rw [q2, eN, fo_s s3], q1.tr s4⟩) 0 () σ (Nat.zero_le _) ⟨kp.rf, rfl⟩ with ⟨_, τ, ⟨a1, a2⟩, a3⟩ | ⟨r, σ1, s1, x, s2, s3, s4⟩
  · refine ⟨τ, go2 (a3 _ _ (g8_sewing_94 ⟨fun _ => ⟨?_, rfl⟩, fun q => absurd (by decide) q⟩)), PK.of a1 (by decide)⟩
    rw [a2]
    rfl
  · subst s2
    refine ⟨σ1, ?_, PK.of s4 (by decide)⟩
    rw [s3]
    exact go2 s1
