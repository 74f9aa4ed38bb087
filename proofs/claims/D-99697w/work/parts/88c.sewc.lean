/-! the component: sewing -/
set_option maxRecDepth 100000
section C5
variable {ρ : Rho} {E : Hp → Prop} {A : Nat → Nat} {σ : Sg}
theorem updSw {f : Nat → Int32} {i j : Nat} {x y : Int32} (h : i ≠ j) : upd (upd f i x) j y = upd (upd f j y) i x := by
  funext k
  by_cases e1 : k = j
  · subst e1
    rw [upd_s, upd_n (fun q => h q.symm), upd_s]
  · by_cases e2 : k = i
    · subst e2
      rw [upd_n e1, upd_s, upd_s]
    · rw [upd_n e1, upd_n e2, upd_n e2, upd_n e1]
def doesB (e : E8) (v : Nat → Int32) (m c : Nat) (t h : Int32) : Bool := decide (¬ v (12 + c) - h < 0) && (decide (¬ s8_isIn (v (18 + c) - t) 0 99 = 0) && ((decide (0 ≤ t) || decide (¬ v (24 + c) < -t)) && sewB e v m c h t))
theorem okn_in {x : Int32} (h : ¬ s8_isIn x 0 99 = 0) : okn x := by
  obtain ⟨j, hj, rfl⟩ := isIn_n (N := 99) (by decide) h
  exact nI_okn hj
theorem sewV_rg {v : Nat → Int32} {nm nc c : Nat} {h t : Int32} (h6 : nm ≤ 6) (hc6 : nc ≤ 6) (hc : c < 6) (hr : rgV v nm nc) (h1 : okn (v (12 + c) - h)) (h2 : okn (v (18 + c) - t)) : rgV (sewV v c h t) nm nc := by
  unfold sewV
  refine ⟨fun m hm => by rw [upd_n (by omega), upd_n (by omega)]; exact hr.1 m hm, fun q hq => ?_⟩
  rw [upd_n (show 24 + q ≠ 18 + c by omega), upd_n (show 24 + q ≠ 12 + c by omega), upd_n (show 30 + q ≠ 18 + c by omega), upd_n (show 30 + q ≠ 12 + c by omega), upd_n (show 12 + q ≠ 18 + c by omega)]
  refine ⟨?_, ?_, (hr.2 q hq).2.2.1, (hr.2 q hq).2.2.2⟩
  · by_cases e : q = c
    · subst e; rw [upd_s]; exact h1
    · rw [upd_n (by omega)]; exact (hr.2 q hq).1
  · by_cases e : q = c
    · subst e; rw [upd_s]; exact h2
    · rw [upd_n (by omega), upd_n (by omega)]; exact (hr.2 q hq).2.1
theorem sewV_cg {nm c : Nat} {u v : Nat → Int32} {h t : Int32} (hv : agv nm u v) (hc : c < 6) : agv nm (sewV u c h t) (sewV v c h t) := by
  unfold sewV
  exact (hv.up _ (by rw [hv (12 + c) (by omega) (by omega)])).up _ (by rw [hv (18 + c) (by omega) (by omega)])
theorem doesC (d : Nat) {m c hm : Nat} (t : Int32) (hT : tlV ρ) (hN : okNow ρ (stV σ 1)) (hmm : m < ρ.1 0) (hc : c < ρ.1 1) (hh : hm ≤ 20) :
    ∃ σ1, Tv ρ E A mX0_doesFit (d + 303) 0 0 [.ref (A 0), .int (nI c), .int (nI m), .int t, .int (nI hm)] σ (some (.int (bi (doesB (eC ρ) (stV σ 1) m c t (nI hm))))) σ1 ∧ kc dplt σ σ1 := by
  have h6 := hT.1
  have h6c := hT.2.1
  have cc : (nI c).toNatClampNeg = c := cl (by omega)
  obtain ⟨σ0, o1, o2, o3⟩ := ofC (d + 301) (ρ := ρ) (E := E) (A := A) (σ := σ)
  have hO := okThen hT hN o3
  have e12 : σ0.1 11 c = stV σ 1 (12 + c) := by rw [rdt2 (by omega), o3 _ (by omega)]
  have e18 : σ0.1 12 c = stV σ 1 (18 + c) := by rw [rdt3 (by omega), o3 _ (by omega)]
  have e24 : σ0.1 6 c = stV σ 1 (24 + c) := by rw [o2.2 6 (by decide), rdn4 (by omega)]
  generalize hτ : ((upA (upA σ0.1 12 (upd (σ0.1 12) c (stV σ 1 (18 + c) - t))) 11 (upd (σ0.1 11) c (stV σ 1 (12 + c) - nI hm)), σ0.2) : Sg) = τ
  have kτ : kc dplt σ τ := by
    rw [← hτ]
    exact ((o2.mo (by decide) : kc dplt σ σ0).up (o := 12) (by decide) _).up (o := 11) (by decide) _
  have vτ : stV τ 8 = sewV (stV σ0 8) c (nI hm) t := by
    have a1 := svt3 (σ := σ0) (w := σ0.2) (k := c) (x := stV σ 1 (18 + c) - t) (by omega)
    have a2 := svt2 (σ := (upA σ0.1 12 (upd (σ0.1 12) c (stV σ 1 (18 + c) - t)), σ0.2)) (w := σ0.2) (k := c) (x := stV σ 1 (12 + c) - nI hm) (by omega)
    dsimp only at a2
    rw [upA_n (by decide), a1] at a2
    rw [← hτ, a2]
    unfold sewV
    rw [updSw (show 18 + c ≠ 12 + c by omega), o3 _ (by omega), o3 _ (by omega)]
  have go : ∀ {r σ1}, σ1.2 = σ.2 → _ → Tv ρ E A mX0_doesFit (d + 303) 0 0 [.ref (A 0), .int (nI c), .int (nI m), .int t, .int (nI hm)] σ r σ1 := fun h2 h => Tv.of [.ref (A 0), .int (nI c), .int (nI m), .int t, .int (nI hm), U_] (by decide) rfl (fun _ => Nat.le_of_ble_eq_true rfl) h2 (gc_X0_doesFit_0 ⟨_, o1, vin (by omega) (by decide), h⟩)
  rw [cc, e12, e18, e24, upd_s, upd_s, hτ] at go
  have no : Rv ρ E A mX0_doesFit (d + 303) 0 0 90 [.ref (A 0), .int (nI c), .int (nI m), .int t, .int (nI hm), U_] [] τ (some (.int (bi false))) τ := gc_X0_doesFit_90 (gc_X0_doesFit_91_1 ⟨fun _ => ⟨rfl, rfl⟩, fun q => absurd rfl q⟩)
  unfold doesB
  by_cases h1 : stV σ 1 (12 + c) - nI hm < 0
  · rw [decide_eq_false (fun q => q h1), Bool.false_and]
    exact ⟨τ, go kτ.1 ⟨fun _ => no, fun q => absurd h1 q⟩, kτ⟩
  rw [decide_eq_true h1, Bool.true_and]
  by_cases h2 : s8_isIn (stV σ 1 (18 + c) - t) 0 99 = 0
  · rw [decide_eq_false (fun q => q h2), Bool.false_and]
    exact ⟨τ, go kτ.1 ⟨fun q => absurd q h1, fun _ => ⟨fun _ => no, fun q => absurd h2 q⟩⟩, kτ⟩
  rw [decide_eq_true h2, Bool.true_and]
  have ok12 : okn (stV σ 1 (12 + c) - nI hm) := by
    obtain ⟨a, ha, ea⟩ := okn_nI (hN.1.2 c hc).1
    rw [ea] at h1 ⊢
    have ht := pk_sub_toInt (a := a) (b := hm) (by omega) (by omega)
    have : ¬ (nI a - nI hm).toInt < 0 := fun q => h1 (Int32.lt_iff_toInt_lt.mpr q)
    exact ⟨by omega, by omega⟩
  obtain ⟨σ1, f1, f2⟩ := fitCt d (E := E) (A := A) (σ := τ) (m := m) (c := c) hT hmm hc (by
    rw [vτ]
    exact sewV_rg h6 h6c (by omega) hO.1 (by rw [o3 _ (by omega)]; exact ok12) (by rw [o3 _ (by omega)]; exact okn_in h2))
  have ef : fitE (eC ρ) (stV τ 8) m c = sewB (eC ρ) (stV σ 1) m c (nI hm) t := by
    rw [vτ]
    exact fit_cg agE.rf (sewV_cg (agv.of o3) (by omega)) hmm h6 (by omega)
  rw [ef] at f1
  have yes : Rv ρ E A mX0_doesFit (d + 303) 0 0 91 [.ref (A 0), .int (nI c), .int (nI m), .int t, .int (nI hm), U_] [.int 1] τ (some (.int (bi (sewB (eC ρ) (stV σ 1) m c (nI hm) t)))) σ1 := gc_X0_doesFit_91_1 ⟨fun q => absurd q (by decide), fun _ => ⟨_, _, f1, by rw [bi_bi], rfl⟩⟩
  by_cases h3 : 0 ≤ t
  · rw [decide_eq_true h3, Bool.true_or, Bool.true_and]
    exact ⟨σ1, go (f1.1.trans kτ.1) ⟨fun q => absurd q h1, fun _ => ⟨fun q => absurd q h2, fun _ => ⟨fun _ => gc_X0_doesFit_86 yes, fun q => absurd h3 q⟩⟩⟩, kτ.tr (f2.mo (by decide))⟩
  rw [decide_eq_false h3, Bool.false_or]
  by_cases h4 : stV σ 1 (24 + c) < -t
  · rw [decide_eq_false (fun q => q h4), Bool.false_and]
    refine ⟨τ, go kτ.1 ⟨fun q => absurd q h1, fun _ => ⟨fun q => absurd q h2, fun _ => ⟨fun q => absurd q h3, fun _ => ?_⟩⟩⟩, kτ⟩
    rw [if_pos h4]
    exact gc_X0_doesFit_91_1 ⟨fun _ => ⟨rfl, rfl⟩, fun q => absurd rfl q⟩
  · rw [decide_eq_true h4, Bool.true_and]
    refine ⟨σ1, go (f1.1.trans kτ.1) ⟨fun q => absurd q h1, fun _ => ⟨fun q => absurd q h2, fun _ => ⟨fun q => absurd q h3, fun _ => ?_⟩⟩⟩, kτ.tr (f2.mo (by decide))⟩
    rw [if_neg h4]
    exact yes
/-! the first that is found -/
theorem fo_skip {g : Nat → Option Int32} {n : Nat} : ∀ (j k : Nat), (∀ i, k ≤ i → i < k + j → g i = none) → fo g (n + j) k = fo g n (k + j) := by
  intro j
  induction j with
  | zero => intro k _; rfl
  | succ j ih =>
    intro k h
    rw [← Nat.add_assoc, fo_n (h k (Nat.le_refl _) (by omega)), ih (k + 1) (fun i h1 h2 => h i (by omega) (by omega)), show k + 1 + j = k + (j + 1) by omega]
theorem fo_none {g : Nat → Option Int32} : ∀ (n k : Nat), (∀ i, k ≤ i → i < k + n → g i = none) → fo g n k = none := by
  intro n
  induction n with
  | zero => intro k _; rfl
  | succ n ih =>
    intro k h
    rw [fo_n (h k (Nat.le_refl _) (by omega))]
    exact ih (k + 1) (fun i h1 h2 => h i (by omega) (by omega))
theorem fo_tail {g : Nat → Option Int32} {j : Nat} : ∀ (n k : Nat), (∀ i, k + n ≤ i → i < k + n + j → g i = none) → fo g (n + j) k = fo g n k := by
  intro n
  induction n with
  | zero =>
    intro k h
    rw [Nat.zero_add]
    exact fo_none j k (fun i h1 h2 => h i (by omega) (by omega))
  | succ n ih =>
    intro k h
    rw [show n + 1 + j = (n + j) + 1 by omega]
    cases e : g k with
    | some x => rw [fo_s e, fo_s e]
    | none => rw [fo_n e, fo_n e]; exact ih (k + 1) (fun i h1 h2 => h i (by omega) (by omega))
theorem fo_cg {g g' : Nat → Option Int32} : ∀ (n k : Nat), (∀ i, k ≤ i → i < k + n → g i = g' i) → fo g n k = fo g' n k := by
  intro n
  induction n with
  | zero => intro k _; rfl
  | succ n ih =>
    intro k h
    have e := h k (Nat.le_refl _) (by omega)
    have i2 := ih (k + 1) (fun i h1 h2 => h i (by omega) (by omega))
    cases q : g k with
    | some x => rw [fo_s q, fo_s (e.symm.trans q)]
    | none => rw [fo_n q, fo_n (e.symm.trans q)]; exact i2
/-- what the component tries: so many in all, so many hemmed -/
def sewC (e : E8) (v : Nat → Int32) (m c : Nat) (w : Int32) (all hem : Nat) : Option Int32 :=
  if doesB e v m c (nI (all - hem)) (nI hem) = true then some (pick w (nI all) (nI hem) (nI (all - hem)))
  else if doesB e v m c (-nI (all - hem)) (nI hem) = true then some (pick w (nI all) (nI hem) (-nI (all - hem))) else none
theorem pick_3 (w a b c : Int32) : (if w = 0 then a else if w = 1 then b else c) = pick w a b c := rfl
theorem lo_n (n : Nat) (h : n ≤ 40) : sj_max 0 (nI n - 20) = nI (n - 20) := by
  have ht := pk_sub_toInt (a := n) (b := 20) (by omega) (by omega)
  unfold sj_max
  by_cases q : 20 < n
  · have e : nI n - nI 20 = nI (n - 20) := pk_sub (by omega)
    rw [if_pos]
    · exact e
    · rw [Int32.lt_iff_toInt_lt]
      show (0 : Int32).toInt < (nI n - nI 20).toInt
      rw [ht]
      have : (0 : Int32).toInt = 0 := rfl
      omega
  · rw [if_neg]
    · rw [show n - 20 = 0 by omega]; rfl
    · rw [Int32.lt_iff_toInt_lt]
      show ¬ (0 : Int32).toInt < (nI n - nI 20).toInt
      rw [ht]
      have : (0 : Int32).toInt = 0 := rfl
      omega
theorem mi_n (n : Nat) (h : n ≤ 40) : sj_min (nI n) 20 = nI (min n 20) := by
  rw [min_l]
  exact les_nI (b := 20) (by omega) (by omega)
def sewEC (e : E8) (v : Nat → Int32) (m c : Nat) (w : Int32) : Int32 := (fo (fun all => fo (sewC e v m c w all) (min all 20 + 1 - (all - 20)) (all - 20)) 41 0).getD (-100)
theorem sewIC (d : Nat) (w : Int32) {m c all : Nat} (hT : tlV ρ) (hN : okNow ρ (stV σ 1)) (hm : m < ρ.1 0) (hc : c < ρ.1 1) (ha : all ≤ 40) :
    (∃ τ, kc dplt σ τ ∧ fo (sewC (eC ρ) (stV σ 1) m c w all) (min all 20 + 1 - (all - 20)) (all - 20) = none ∧ ∀ r σ1, Rv ρ E A mX0_sewing (d + 304) 0 0 49 [.ref (A 0), .int (nI c), .int (nI m), .int w, .int (nI all), .int (nI (min all 20 + 1)), U_, U_] [] τ r σ1 → Rv ρ E A mX0_sewing (d + 304) 0 0 49 [.ref (A 0), .int (nI c), .int (nI m), .int w, .int (nI all), .int (nI (all - 20)), U_, U_] [] σ r σ1) ∨
    ∃ r σ1, Rv ρ E A mX0_sewing (d + 304) 0 0 49 [.ref (A 0), .int (nI c), .int (nI m), .int w, .int (nI all), .int (nI (all - 20)), U_, U_] [] σ r σ1 ∧ ∃ x, r = some (.int x) ∧ fo (sewC (eC ρ) (stV σ 1) m c w all) (min all 20 + 1 - (all - 20)) (all - 20) = some x ∧ kc dplt σ σ1 := by
  generalize hg : sewC (eC ρ) (stV σ 1) m c w all = g
  have hgk : ∀ k, g k = sewC (eC ρ) (stV σ 1) m c w all k := fun k => by rw [← hg]
  rcases iterCe (T := Unit) (fun k _ τ r σ1 => Rv ρ E A mX0_sewing (d + 304) 0 0 49 [.ref (A 0), .int (nI c), .int (nI m), .int w, .int (nI all), .int (nI k), U_, U_] [] τ r σ1) (fun k _ τ => kc dplt σ τ ∧ fo g (min all 20 + 1 - (all - 20)) (all - 20) = fo g (min all 20 + 1 - k) k) (fun r σ1 => ∃ x, r = some (.int x) ∧ fo g (min all 20 + 1 - (all - 20)) (all - 20) = some x ∧ kc dplt σ σ1) (min all 20 + 1) (by
    rintro k ⟨⟩ τ hk ⟨q1, q2⟩
    have hka : k ≤ all := by omega
    have er : (nI all - nI k : Int32) = nI (all - k) := pk_sub hka
    have eN : min all 20 + 1 - k = (min all 20 + 1 - (k + 1)) + 1 := by omega
    have ev : stV τ 1 = stV σ 1 := stV_kc q1 (by decide)
    have hex : ¬ sj_min (nI all) 20 < nI k := by rw [mi_n _ ha, i32_nlt]; exact nI_le (by omega) (by omega)
    obtain ⟨τ1, t1, t2⟩ := doesC d (E := E) (A := A) (σ := τ) (m := m) (c := c) (hm := k) (nI (all - k)) hT (by rw [ev]; exact hN) hm hc (by omega)
    have ev1 : stV τ1 1 = stV σ 1 := stV_kc (q1.tr t2) (by decide)
    obtain ⟨τ2, s1, s2⟩ := doesC d (E := E) (A := A) (σ := τ1) (m := m) (c := c) (hm := k) (-nI (all - k)) hT (by rw [ev1]; exact hN) hm hc (by omega)
    rw [ev] at t1
    rw [ev1] at s1
    rw [← er] at t1 s1
    cases b1 : doesB (eC ρ) (stV σ 1) m c (nI all - nI k) (nI k) with
    | true =>
      rw [b1] at t1
      have hn : g k = some (pick w (nI all) (nI k) (nI (all - k))) := by
        rw [hgk]; unfold sewC; rw [← er, if_pos b1]
      refine Or.inr ⟨_, τ1, gc_X0_sewing_49 ⟨fun q => absurd q hex, fun _ => ⟨_, _, t1, fun _ => gc_X0_sewing_102 ⟨rfl, rfl⟩, fun q => absurd q (by decide)⟩⟩, _, rfl, ?_, q1.tr t2⟩
      rw [q2, eN, fo_s hn, er, if_neg (show ¬ bi true = 0 by decide)]
      rfl
    | false =>
      rw [b1] at t1
      cases b2 : doesB (eC ρ) (stV σ 1) m c (-(nI all - nI k)) (nI k) with
      | true =>
        rw [b2] at s1
        have hn : g k = some (pick w (nI all) (nI k) (-nI (all - k))) := by
          rw [hgk]; unfold sewC; rw [← er, if_neg (by rw [b1]; decide), if_pos b2]
        refine Or.inr ⟨_, τ2, gc_X0_sewing_49 ⟨fun q => absurd q hex, fun _ => ⟨_, _, t1, fun q => absurd rfl q, fun _ => ⟨_, _, s1, fun _ => gc_X0_sewing_102 ⟨rfl, rfl⟩, fun q => absurd q (by decide)⟩⟩⟩, _, rfl, ?_, (q1.tr t2).tr s2⟩
        rw [q2, eN, fo_s hn, er, if_pos (show bi false = 0 from rfl)]
        rfl
      | false =>
        rw [b2] at s1
        have hn : g k = none := by
          rw [hgk]; unfold sewC; rw [← er, if_neg (by rw [b1]; decide), if_neg (by rw [b2]; decide)]
        refine Or.inl ⟨(), τ2, ⟨(q1.tr t2).tr s2, by rw [q2, eN, fo_n hn]⟩, fun r σ1 h => ?_⟩
        refine gc_X0_sewing_49 ⟨fun q => absurd q hex, fun _ => ⟨_, _, t1, fun q => absurd rfl q, fun _ => ⟨_, _, s1, fun q => absurd rfl q, fun _ => ?_⟩⟩⟩
        rw [nI_1]
        exact h) (all - 20) () σ (by omega) ⟨kc.rf, rfl⟩ with ⟨_, τ, ⟨a1, a2⟩, a3⟩ | h
  · refine Or.inl ⟨τ, a1, ?_, a3⟩
    rw [a2, Nat.sub_self]
    rfl
  · exact Or.inr h
theorem sewingC (d : Nat) (c m w : Int32) (hT : tlV ρ) (hN : okNow ρ (stV σ 1)) :
    ∃ σ1, Tv ρ E A mX0_sewing (d + 304) 0 0 [.ref (A 0), .int c, .int m, .int w] σ (some (.int (if idx c (ρ.1 1) && (idx m (ρ.1 0) && decide (¬ s8_isIn w 0 2 = 0)) then sewEC (eC ρ) (stV σ 1) m.toNatClampNeg c.toNatClampNeg w else -100))) σ1 ∧ kc dplt σ σ1 := by
  have h6 := hT.1
  have h6c := hT.2.1
  have go : ∀ {r σ1}, σ1.2 = σ.2 → _ → Tv ρ E A mX0_sewing (d + 304) 0 0 [.ref (A 0), .int c, .int m, .int w] σ r σ1 := fun h2 h => Tv.of [.ref (A 0), .int c, .int m, .int w, U_, U_, U_, U_] (by decide) rfl (fun _ => Nat.le_of_ble_eq_true rfl) h2 (gc_X0_sewing_0 ⟨_, _, isCoatC (d + 300) c h6c, h⟩)
  have qm := isManC (d + 300) (E := E) (A := A) (σ := σ) m h6
  cases h1 : idx c (ρ.1 1) with
  | false => exact ⟨σ, go rfl ⟨fun _ => ⟨rfl, rfl⟩, fun q => absurd (bi_f h1) q⟩, kc.rf⟩
  | true =>
  cases h2 : idx m (ρ.1 0) with
  | false => exact ⟨σ, go rfl ⟨fun q => absurd q (bi_t h1), fun _ => ⟨_, _, qm, fun _ => ⟨rfl, rfl⟩, fun q => absurd (bi_f h2) q⟩⟩, kc.rf⟩
  | true =>
  by_cases h3 : s8_isIn w 0 2 = 0
  · rw [decide_eq_false (fun q => q h3)]
    exact ⟨σ, go rfl ⟨fun q => absurd q (bi_t h1), fun _ => ⟨_, _, qm, fun q => absurd q (bi_t h2), fun _ => ⟨fun q => absurd h3 q, fun _ => ⟨rfl, rfl⟩⟩⟩⟩, kc.rf⟩
  rw [decide_eq_true h3]
  obtain ⟨c', hc, ec⟩ := idx_of h1 (by omega)
  obtain ⟨m', hm, em⟩ := idx_of h2 (by omega)
  subst ec; subst em
  have cc1 : (nI c').toNatClampNeg = c' := cl (by omega)
  have cm1 : (nI m').toNatClampNeg = m' := cl (by omega)
  rw [cc1, cm1]
  have go2 : ∀ {r σ1}, σ1.2 = σ.2 → Rv ρ E A mX0_sewing (d + 304) 0 0 31 [.ref (A 0), .int (nI c'), .int (nI m'), .int w, .int (nI 0), U_, U_, U_] [] σ r σ1 → Tv ρ E A mX0_sewing (d + 304) 0 0 [.ref (A 0), .int (nI c'), .int (nI m'), .int w] σ r σ1 := fun hq h => go hq ⟨fun q => absurd q (bi_t h1), fun _ => ⟨_, _, qm, fun q => absurd q (bi_t h2), fun _ => ⟨fun _ => h, fun q => absurd q h3⟩⟩⟩
  unfold sewEC
  generalize hG : (fun all => fo (sewC (eC ρ) (stV σ 1) m' c' w all) (min all 20 + 1 - (all - 20)) (all - 20)) = G9
  have hGk : ∀ k, G9 k = fo (sewC (eC ρ) (stV σ 1) m' c' w k) (min k 20 + 1 - (k - 20)) (k - 20) := fun k => by rw [← hG]
  rcases iterCe (T := Unit) (fun k _ τ r σ1 => Rv ρ E A mX0_sewing (d + 304) 0 0 31 [.ref (A 0), .int (nI c'), .int (nI m'), .int w, .int (nI k), U_, U_, U_] [] τ r σ1) (fun k _ τ => kc dplt σ τ ∧ fo G9 41 0 = fo G9 (41 - k) k) (fun r σ1 => ∃ x, r = some (.int x) ∧ fo G9 41 0 = some x ∧ kc dplt σ σ1) 41 (by
    rintro k ⟨⟩ τ hk ⟨q1, q2⟩
    have eN : 41 - k = (41 - (k + 1)) + 1 := by omega
    have hex : ¬ 40 < nI k := by rw [i32_nlt]; exact nI_le (b := 40) (by omega) (by decide)
    have ev : stV τ 1 = stV σ 1 := stV_kc q1 (by decide)
    have hin := sewIC d (E := E) (A := A) (σ := τ) w (m := m') (c := c') (all := k) hT (by rw [ev]; exact hN) hm hc (by omega)
    rw [ev, ← hGk] at hin
    rcases hin with ⟨τ1, s1, s2, s3⟩ | ⟨r, σ1, s1, x, s2, s3, s4⟩
    · refine Or.inl ⟨(), τ1, ⟨q1.tr s1, by rw [q2, eN, fo_n s2]⟩, fun r σ1 h => ?_⟩
      refine gc_X0_sewing_31 ⟨fun q => absurd q hex, fun _ => ?_⟩
      rw [lo_n k (by omega)]
      refine s3 _ _ (gc_X0_sewing_49 ⟨fun _ => by rw [nI_1]; exact h, fun q => absurd ?_ q⟩)
      rw [mi_n k (by omega)]
      exact nI_lt (by omega) (by omega)
    · refine Or.inr ⟨r, σ1, gc_X0_sewing_31 ⟨fun q => absurd q hex, fun _ => by rw [lo_n k (by omega)]; exact s1⟩, x, s2, by rw [q2, eN, fo_s s3], q1.tr s4⟩) 0 () σ (Nat.zero_le _) ⟨kc.rf, rfl⟩ with ⟨_, τ, ⟨a1, a2⟩, a3⟩ | ⟨r, σ1, s1, x, s2, s3, s4⟩
  · refine ⟨τ, go2 a1.1 (a3 _ _ (gc_X0_sewing_31 ⟨fun _ => ⟨?_, rfl⟩, fun q => absurd (by decide) q⟩)), a1⟩
    rw [a2]
    rfl
  · subst s2
    refine ⟨σ1, ?_, s4⟩
    rw [s3]
    exact go2 s4.1 s1
/-- both ways of trying find the same -/
theorem doesB_i {e : E8} {v : Nat → Int32} {m c t wd hem k : Nat} (e1 : v (12 + c) = nI t) (e2 : v (18 + c) = nI wd) (ht : t ≤ 99) (hwd : wd ≤ 99) (hh : hem ≤ 20) (hk : k ≤ 20) : doesB e v m c (nI k) (nI hem) = (decide (hem ≤ t ∧ k ≤ wd) && sewB e v m c (nI hem) (nI k)) := by
  have x1 := pk_sub_toInt (a := t) (b := hem) (by omega) (by omega)
  have x2 := pk_sub_toInt (a := wd) (b := k) (by omega) (by omega)
  have z0 : (0 : Int32).toInt = 0 := rfl
  have z99 : (99 : Int32).toInt = 99 := rfl
  unfold doesB
  rw [e1, e2]
  have y1 : (¬ nI t - nI hem < 0) ↔ hem ≤ t := by
    rw [Int32.lt_iff_toInt_lt, x1, z0]; omega
  have y2 : (¬ s8_isIn (nI wd - nI k) 0 99 = 0) ↔ k ≤ wd := by
    unfold s8_isIn
    by_cases q : (nI wd - nI k) < 0
    · rw [if_pos q]
      rw [Int32.lt_iff_toInt_lt, x2, z0] at q
      constructor
      · intro h; exact absurd rfl h
      · intro h; omega
    · rw [if_neg q, if_neg (by rw [Int32.lt_iff_toInt_lt, x2, z99]; omega)]
      rw [Int32.lt_iff_toInt_lt, x2, z0] at q
      constructor
      · intro _; omega
      · intro _; decide
  have y3 : 0 ≤ nI k := nI_le (a := 0) (by omega) (by omega)
  rw [decide_eq_true y3, Bool.true_or, Bool.true_and]
  by_cases a1 : hem ≤ t
  · rw [decide_eq_true (y1.mpr a1), Bool.true_and]
    by_cases a2 : k ≤ wd
    · rw [decide_eq_true (y2.mpr a2), decide_eq_true (p := hem ≤ t ∧ k ≤ wd) ⟨a1, a2⟩]
    · rw [decide_eq_false (fun q => a2 (y2.mp q)), decide_eq_false (p := hem ≤ t ∧ k ≤ wd) (fun q => a2 q.2)]
  · rw [decide_eq_false (fun q => a1 (y1.mp q)), decide_eq_false (p := hem ≤ t ∧ k ≤ wd) (fun q => a1 q.1), Bool.false_and, Bool.false_and]
theorem doesB_o {e : E8} {v : Nat → Int32} {m c t wd se hem k : Nat} (e1 : v (12 + c) = nI t) (e2 : v (18 + c) = nI wd) (e3 : v (24 + c) = nI se) (ht : t ≤ 99) (hwd : wd ≤ 99) (hse : se ≤ 99) (hh : hem ≤ 20) (hk : k ≤ 20) (h0 : 0 < k) : doesB e v m c (-nI k) (nI hem) = (decide (hem ≤ t ∧ wd + k ≤ 99 ∧ k ≤ se) && sewB e v m c (nI hem) (-nI k)) := by
  have x1 := pk_sub_toInt (a := t) (b := hem) (by omega) (by omega)
  have z0 : (0 : Int32).toInt = 0 := rfl
  have z99 : (99 : Int32).toInt = 99 := rfl
  have en : nI wd - -nI k = nI (wd + k) := by rw [← nI_add, Int32.sub_neg]
  have ep : -(-nI k) = nI k := Int32.neg_neg
  have y1 : (¬ nI t - nI hem < 0) ↔ hem ≤ t := by
    rw [Int32.lt_iff_toInt_lt, x1, z0]; omega
  have y3 : ¬ 0 ≤ -nI k := by
    have : (0 - nI k : Int32).toInt = 0 - k := pk_sub_toInt (a := 0) (b := k) (by omega) (by omega)
    rw [Int32.zero_sub] at this
    rw [Int32.le_iff_toInt_le, this, z0]
    omega
  have y2 : (¬ s8_isIn (nI (wd + k)) 0 99 = 0) ↔ wd + k ≤ 99 := by
    unfold s8_isIn
    rw [if_neg (nI_nneg (by omega))]
    by_cases q : wd + k ≤ 99
    · rw [if_neg (by rw [i32_nlt]; exact nI_le (b := 99) q (by decide))]
      exact ⟨fun _ => q, fun _ => by decide⟩
    · have q9 : (99 : Int32) < nI (wd + k) := nI_lt (a := 99) (b := wd + k) (by omega) (by omega)
      rw [if_pos q9]
      exact ⟨fun h => absurd rfl h, fun h => absurd h q⟩
  have y4 : (¬ nI se < nI k) ↔ k ≤ se := by
    rw [i32_nlt]
    exact ⟨fun h => Nat.not_lt.mp (fun q => absurd h (nI_ge q (by omega))), fun h => nI_le h (by omega)⟩
  unfold doesB
  rw [e1, e2, e3, en, ep, decide_eq_false y3, Bool.false_or]
  by_cases a1 : hem ≤ t
  · rw [decide_eq_true (y1.mpr a1), Bool.true_and]
    by_cases a2 : wd + k ≤ 99
    · rw [decide_eq_true (y2.mpr a2), Bool.true_and]
      by_cases a3 : k ≤ se
      · rw [decide_eq_true (y4.mpr a3), decide_eq_true (p := hem ≤ t ∧ wd + k ≤ 99 ∧ k ≤ se) ⟨a1, a2, a3⟩]
      · rw [decide_eq_false (fun q => a3 (y4.mp q)), decide_eq_false (p := hem ≤ t ∧ wd + k ≤ 99 ∧ k ≤ se) (fun q => a3 q.2.2)]
    · rw [decide_eq_false (fun q => a2 (y2.mp q)), decide_eq_false (p := hem ≤ t ∧ wd + k ≤ 99 ∧ k ≤ se) (fun q => a2 q.2.1), Bool.false_and, Bool.false_and]
  · rw [decide_eq_false (fun q => a1 (y1.mp q)), decide_eq_false (p := hem ≤ t ∧ wd + k ≤ 99 ∧ k ≤ se) (fun q => a1 q.1), Bool.false_and, Bool.false_and]
theorem sew_same {e : E8} {v : Nat → Int32} {m c t wd se : Nat} {w : Int32} (e1 : v (12 + c) = nI t) (e2 : v (18 + c) = nI wd) (e3 : v (24 + c) = nI se) (ht : t ≤ 99) (hwd : wd ≤ 99) (hse : se ≤ 99) : sewEC e v m c w = sewE e v m c (min 20 t) (min 20 wd) (min (min 20 se) (99 - wd)) w := by
  unfold sewEC sewE
  rw [fo_cg 41 0 (g' := fun all => fo (sewT e v m c (min 20 wd) (min (min 20 se) (99 - wd)) w all) (min all (min 20 t) + 1) 0)]
  intro all _ hall
  show fo (sewC e v m c w all) (min all 20 + 1 - (all - 20)) (all - 20) = fo (sewT e v m c (min 20 wd) (min (min 20 se) (99 - wd)) w all) (min all (min 20 t) + 1) 0
  -- one row
  have ge : ∀ hem, hem ≤ 20 → hem ≤ all → all - hem ≤ 20 → hem ≤ t → sewC e v m c w all hem = sewT e v m c (min 20 wd) (min (min 20 se) (99 - wd)) w all hem := by
    intro hem b1 b2 b3 b4
    unfold sewC sewT
    rw [doesB_i e1 e2 ht hwd b1 b3]
    by_cases c1 : all - hem ≤ wd
    · rw [decide_eq_true (p := hem ≤ t ∧ all - hem ≤ wd) ⟨b4, c1⟩, Bool.true_and]
      by_cases c2 : sewB e v m c (nI hem) (nI (all - hem)) = true
      · rw [if_pos c2, if_pos ⟨by omega, c2⟩]
      · have nt : ¬ (all - hem ≤ min 20 wd ∧ sewB e v m c (nI hem) (nI (all - hem)) = true) := fun q => c2 q.2
        rw [if_neg c2, if_neg nt]
        by_cases c3 : all - hem = 0
        · rw [if_neg (fun q => by omega : ¬ (0 < all - hem ∧ all - hem ≤ min (min 20 se) (99 - wd) ∧ sewB e v m c (nI hem) (-nI (all - hem)) = true))]
          rw [c3, show -nI 0 = nI 0 from rfl, doesB_i e1 e2 ht hwd b1 (by omega)]
          rw [c3] at c2
          rw [if_neg (by simp only [Bool.and_eq_true]; exact fun q => c2 q.2)]
        · rw [doesB_o e1 e2 e3 ht hwd hse b1 b3 (by omega)]
          by_cases c4 : wd + (all - hem) ≤ 99 ∧ all - hem ≤ se
          · rw [decide_eq_true (p := hem ≤ t ∧ wd + (all - hem) ≤ 99 ∧ all - hem ≤ se) ⟨b4, c4⟩, Bool.true_and]
            by_cases c5 : sewB e v m c (nI hem) (-nI (all - hem)) = true
            · rw [if_pos c5, if_pos ⟨by omega, by omega, c5⟩]
            · rw [if_neg c5, if_neg (show ¬ (0 < all - hem ∧ all - hem ≤ min (min 20 se) (99 - wd) ∧ sewB e v m c (nI hem) (-nI (all - hem)) = true) from fun q => c5 q.2.2)]
          · rw [decide_eq_false (p := hem ≤ t ∧ wd + (all - hem) ≤ 99 ∧ all - hem ≤ se) (fun q => c4 q.2), Bool.false_and, if_neg (show ¬ false = true by decide), if_neg (show ¬ (0 < all - hem ∧ all - hem ≤ min (min 20 se) (99 - wd) ∧ sewB e v m c (nI hem) (-nI (all - hem)) = true) from fun q => c4 (by omega))]
    · have nt : ¬ (all - hem ≤ min 20 wd ∧ sewB e v m c (nI hem) (nI (all - hem)) = true) := fun q => c1 (by omega)
      rw [decide_eq_false (p := hem ≤ t ∧ all - hem ≤ wd) (fun q => c1 q.2), Bool.false_and, if_neg (show ¬ false = true by decide), if_neg nt]
      rw [doesB_o e1 e2 e3 ht hwd hse b1 b3 (by omega)]
      by_cases c4 : wd + (all - hem) ≤ 99 ∧ all - hem ≤ se
      · rw [decide_eq_true (p := hem ≤ t ∧ wd + (all - hem) ≤ 99 ∧ all - hem ≤ se) ⟨b4, c4⟩, Bool.true_and]
        by_cases c5 : sewB e v m c (nI hem) (-nI (all - hem)) = true
        · rw [if_pos c5, if_pos ⟨by omega, by omega, c5⟩]
        · rw [if_neg c5, if_neg (show ¬ (0 < all - hem ∧ all - hem ≤ min (min 20 se) (99 - wd) ∧ sewB e v m c (nI hem) (-nI (all - hem)) = true) from fun q => c5 q.2.2)]
      · rw [decide_eq_false (p := hem ≤ t ∧ wd + (all - hem) ≤ 99 ∧ all - hem ≤ se) (fun q => c4 q.2), Bool.false_and, if_neg (show ¬ false = true by decide), if_neg (show ¬ (0 < all - hem ∧ all - hem ≤ min (min 20 se) (99 - wd) ∧ sewB e v m c (nI hem) (-nI (all - hem)) = true) from fun q => c4 (by omega))]
  have gn : ∀ hem, hem ≤ 20 → hem ≤ all → all - hem ≤ 20 → t < hem → sewC e v m c w all hem = none := by
    intro hem b1 b2 b3 b4
    unfold sewC
    rw [doesB_i e1 e2 ht hwd b1 b3, decide_eq_false (p := hem ≤ t ∧ all - hem ≤ wd) (fun q => by omega), Bool.false_and, if_neg (by decide)]
    by_cases c3 : all - hem = 0
    · rw [c3, show -nI 0 = nI 0 from rfl, doesB_i e1 e2 ht hwd b1 (by omega), decide_eq_false (p := hem ≤ t ∧ 0 ≤ wd) (fun q => by omega), Bool.false_and, if_neg (by decide)]
    · rw [doesB_o e1 e2 e3 ht hwd hse b1 b3 (by omega), decide_eq_false (p := hem ≤ t ∧ wd + (all - hem) ≤ 99 ∧ all - hem ≤ se) (fun q => by omega), Bool.false_and, if_neg (by decide)]
  have tn : ∀ hem, 20 < all - hem → sewT e v m c (min 20 wd) (min (min 20 se) (99 - wd)) w all hem = none := by
    intro hem b
    unfold sewT
    rw [if_neg (fun q => by omega), if_neg (fun q => by omega)]
  by_cases hc : all - 20 ≤ min all (min 20 t)
  · -- the rows overlap
    have s1 : min all (min 20 t) + 1 = (min all (min 20 t) + 1 - (all - 20)) + (all - 20) := by omega
    have r1 := fo_skip (g := sewT e v m c (min 20 wd) (min (min 20 se) (99 - wd)) w all) (n := min all (min 20 t) + 1 - (all - 20)) (all - 20) 0 (fun i _ h2 => tn i (by omega))
    rw [← s1, Nat.zero_add] at r1
    rw [r1]
    have s2 : min all 20 + 1 - (all - 20) = (min all (min 20 t) + 1 - (all - 20)) + (min all 20 - min all (min 20 t)) := by omega
    rw [s2, fo_tail _ _ (fun i h1 h2 => gn i (by omega) (by omega) (by omega) (by omega))]
    exact fo_cg _ _ (fun i h1 h2 => ge i (by omega) (by omega) (by omega) (by omega))
  · rw [fo_none _ _ (fun i h1 h2 => gn i (by omega) (by omega) (by omega) (by omega)), fo_none _ _ (fun i h1 h2 => tn i (by omega))]
end C5
