/-! the component: two who reach -/
set_option maxRecDepth 100000
section C8
variable {ρ : Rho} {E : Hp → Prop} {A : Nat → Nat} {σ : Sg}
theorem getsC (d : Nat) {m c o : Nat} {v : Nat → Int32} (hT : tlV ρ) (hv : stV σ 1 = v) (hN : okNow ρ v) (hm : m < ρ.1 0) (hc : c < ρ.1 1) (ho : o < ρ.1 1) : ∃ σ1, Tv ρ E A mX0_gets (d + 302) 0 0 [.ref (A 0), .int (nI m), .int (nI c), .int (nI o)] σ (some (.int (rcE (misE (eC ρ) v) m c o))) σ1 ∧ kc [30] σ σ1 := by
  have h6c := hT.2.1
  have go : ∀ {r σ1}, σ1.2 = σ.2 → _ → Tv ρ E A mX0_gets (d + 302) 0 0 [.ref (A 0), .int (nI m), .int (nI c), .int (nI o)] σ r σ1 := fun h2 h => Tv.of [.ref (A 0), .int (nI m), .int (nI c), .int (nI o)] (by decide) rfl (fun _ => Nat.le_of_ble_eq_true rfl) h2 (gc_X0_gets_0 h)
  unfold rcE
  by_cases h : c = o
  · subst h
    rw [if_pos rfl]
    exact ⟨σ, go rfl ⟨fun q => absurd rfl q, fun _ => ⟨rfl, rfl⟩⟩, kc.rf⟩
  · rw [if_neg h]
    obtain ⟨σ1, q1, q2⟩ := misOwn d (E := E) (A := A) (τ := σ) hT hm hc (by rw [hv]; exact hN)
    rw [hv] at q1
    exact ⟨σ1, go q1.1 ⟨fun _ => ⟨_, _, q1, rfl, rfl⟩, fun q => absurd q (nI_ne (by omega) (by omega) h)⟩, q2⟩
theorem bz_free {v : Nat → Int32} {nm nc k : Nat} (hc6 : nc ≤ 6) (hk : k < nc) : bz (freeE v nm nc) k = decide (0 ≤ wearer8 v (nI k) nm) := by
  rw [bz_has, has_c]
  unfold freeE
  rw [hasB_set8 _ hc6 (by omega), decide_eq_true hk, Bool.true_and]
  by_cases q : 0 ≤ wearer8 v (nI k) nm
  · rw [decide_eq_true q, decide_eq_false (p := ¬ 0 ≤ wearer8 v (nI k) nm) (fun z => z q)]
    rfl
  · rw [decide_eq_false q, decide_eq_true (p := ¬ 0 ≤ wearer8 v (nI k) nm) q]
    rfl
theorem restsC (d : Nat) {m n x y : Nat} {v : Nat → Int32} (hT : tlV ρ) (hv : stV σ 1 = v) (hN : okNow ρ v) (hm : m < ρ.1 0) (hn : n < ρ.1 0) (hx : x < ρ.1 1) (hy : y < ρ.1 1) : ∃ σ1, Tv ρ E A mX0_rests (d + 303) 0 0 [.ref (A 0), .int (nI m), .int (nI n), .int (nI x), .int (nI y)] σ (some (.int (bi (restE (misE (eC ρ) v) m n x y (freeE v (ρ.1 0) (ρ.1 1)) (ρ.1 1))))) σ1 ∧ kc [30] σ σ1 := by
  have h6 := hT.1
  have h6c := hT.2.1
  generalize hill : misE (eC ρ) v = ill
  generalize hfr : freeE v (ρ.1 0) (ρ.1 1) = free
  have hfree : ∀ k, k < ρ.1 1 → bz free k = decide (0 ≤ wearer8 v (nI k) (ρ.1 0)) := fun k hk => by rw [← hfr]; exact bz_free h6c hk
  have go : ∀ {r σ1}, σ1.2 = σ.2 → _ → Tv ρ E A mX0_rests (d + 303) 0 0 [.ref (A 0), .int (nI m), .int (nI n), .int (nI x), .int (nI y)] σ r σ1 := fun h2 h => Tv.of [.ref (A 0), .int (nI m), .int (nI n), .int (nI x), .int (nI y), U_] (by decide) rfl (fun _ => Nat.le_of_ble_eq_true rfl) h2 (gc_X0_rests_0 h)
  have stay : ∀ k, restE ill m n x y free k = false → ∀ j, restE ill m n x y free (k + j) = false := by
    intro k h j
    induction j with
    | zero => exact h
    | succ j ih => rw [← Nat.add_assoc, restE_s, ih]; rfl
  rcases iterCe (T := Unit) (fun k _ τ r σ1 => Rv ρ E A mX0_rests (d + 303) 0 0 3 [.ref (A 0), .int (nI m), .int (nI n), .int (nI x), .int (nI y), .int (nI k)] [] τ r σ1) (fun k _ τ => kc [30] σ τ ∧ restE ill m n x y free k = true) (fun r σ1 => r = some (.int (bi (restE ill m n x y free (ρ.1 1)))) ∧ kc [30] σ σ1) (ρ.1 1) (by
    rintro k ⟨⟩ τ hk ⟨q1, q2⟩
    have ev : stV τ 1 = v := by rw [stV_kc q1 (by decide)]; exact hv
    have hex : ¬ nI (ρ.1 1) ≤ nI k := nI_ge hk (by omega)
    have hw := wearCn (d + 301) (ρ := ρ) (E := E) (A := A) (σ := τ) (c := k) h6 (by omega) (by rw [ev]; exact hN.2.2.1) (by rw [ev]; exact hN.2.2.2)
    rw [ev] at hw
    have es : restE ill m n x y free (k + 1) = restS ill m n x y free k := by rw [restE_s, q2, Bool.true_and]
    have stop : restS ill m n x y free k = false → restE ill m n x y free (ρ.1 1) = false := fun h => by
      have := stay (k + 1) (by rw [es]; exact h) (ρ.1 1 - (k + 1))
      rw [show k + 1 + (ρ.1 1 - (k + 1)) = ρ.1 1 by omega] at this
      exact this
    by_cases c1 : wearer8 v (nI k) (ρ.1 0) < 0
    · have hb : bz free k = false := by rw [hfree k hk]; exact decide_eq_false (Int32.not_le.mpr c1)
      obtain ⟨τ1, g1, e1⟩ := getsC d (E := E) (A := A) (σ := τ) (o := y) hT ev hN hm hk hy
      have v1 : stV τ1 1 = v := by rw [stV_kc e1 (by decide)]; exact ev
      obtain ⟨τ2, g2, e2⟩ := getsC d (E := E) (A := A) (σ := τ1) (o := y) hT v1 hN hm hx hy
      have v2 : stV τ2 1 = v := by rw [stV_kc e2 (by decide)]; exact v1
      obtain ⟨τ3, g3, e3⟩ := getsC d (E := E) (A := A) (σ := τ2) (o := x) hT v2 hN hn hk hx
      have v3 : stV τ3 1 = v := by rw [stV_kc e3 (by decide)]; exact v2
      obtain ⟨τ4, g4, e4⟩ := getsC d (E := E) (A := A) (σ := τ3) (o := x) hT v3 hN hn hy hx
      rw [hill] at g1 g2 g3 g4
      have k2 := (q1.tr e1).tr e2
      have k4 := (k2.tr e3).tr e4
      by_cases c2 : rcE ill m k y < rcE ill m x y
      · have hr : restS ill m n x y free k = false := by
          unfold restS
          rw [hb, Bool.false_or, decide_eq_false (fun z => z c2), Bool.false_and]
        refine Or.inr ⟨_, τ2, gc_X0_rests_3 ⟨_, _, coatsC (d + 300), fun q => absurd q hex, fun _ => ⟨_, _, hw, fun _ => ⟨_, _, g1, _, _, g2, fun _ => ⟨rfl, rfl⟩, fun q => absurd c2 q⟩, fun q => absurd c1 q⟩⟩, ?_, k2⟩
        rw [stop hr]
        rfl
      by_cases c3 : rcE ill n y x ≤ rcE ill n k x
      · have hr : restS ill m n x y free k = true := by
          unfold restS
          rw [hb, Bool.false_or, decide_eq_true c2, Bool.true_and]
          exact decide_eq_true (Int32.not_lt.mpr c3)
        refine Or.inl ⟨(), τ4, ⟨k4, by rw [es]; exact hr⟩, fun r σ1 h => ?_⟩
        refine gc_X0_rests_3 ⟨_, _, coatsC (d + 300), fun q => absurd q hex, fun _ => ⟨_, _, hw, fun _ => ⟨_, _, g1, _, _, g2, fun q => absurd q c2, fun _ => ⟨_, _, g3, _, _, g4, fun _ => ?_, fun q => absurd c3 q⟩⟩, fun q => absurd c1 q⟩⟩
        rw [nI_1]
        exact h
      · have hr : restS ill m n x y free k = false := by
          unfold restS
          rw [hb, Bool.false_or, decide_eq_true c2, Bool.true_and]
          exact decide_eq_false (fun z => z (Int32.not_le.mp c3))
        refine Or.inr ⟨_, τ4, gc_X0_rests_3 ⟨_, _, coatsC (d + 300), fun q => absurd q hex, fun _ => ⟨_, _, hw, fun _ => ⟨_, _, g1, _, _, g2, fun q => absurd q c2, fun _ => ⟨_, _, g3, _, _, g4, fun q => absurd q c3, fun _ => ⟨rfl, rfl⟩⟩⟩, fun q => absurd c1 q⟩⟩, ?_, k4⟩
        rw [stop hr]
        rfl
    · have hb : bz free k = true := by rw [hfree k hk]; exact decide_eq_true (Int32.not_lt.mp c1)
      have hr : restS ill m n x y free k = true := by
        unfold restS
        rw [hb, Bool.true_or]
      refine Or.inl ⟨(), τ, ⟨q1, by rw [es]; exact hr⟩, fun r σ1 h => ?_⟩
      refine gc_X0_rests_3 ⟨_, _, coatsC (d + 300), fun q => absurd q hex, fun _ => ⟨_, _, hw, fun q => absurd q c1, fun _ => ?_⟩⟩
      rw [nI_1]
      exact h) 0 () σ (Nat.zero_le _) ⟨kc.rf, rfl⟩ with ⟨_, τ, ⟨a1, a2⟩, a3⟩ | ⟨r, σ1, s1, s2, s3⟩
  · refine ⟨τ, go a1.1 (a3 _ _ (gc_X0_rests_3 ⟨_, _, coatsC (d + 300), fun _ => ⟨?_, rfl⟩, fun q => absurd (nI_le (Nat.le_refl _) (by omega)) q⟩)), a1⟩
    rw [a2]
    rfl
  · subst s2
    exact ⟨σ1, go s3.1 s1, s3⟩
/-- all but what is laid is as before -/
def kl (σ : Sg) (x : Int32) (L : Nat → Int32) (τ : Sg) : Prop := τ.2 = σ.2 ∧ τ.1 0 13 = x ∧ τ.1 19 = L ∧ (∀ j, j ∉ [13, 14, 15] → τ.1 0 j = σ.1 0 j) ∧ ∀ o, o ∉ [0, 19, 20, 30] → τ.1 o = σ.1 o
theorem kl.kc {τ τ1 : Sg} {x : Int32} {L : Nat → Int32} (h : kl σ x L τ) (k : kc [30] τ τ1) : kl σ x L τ1 := by
  refine ⟨k.1.trans h.1, ?_, ?_, fun j hj => ?_, fun o ho => ?_⟩
  · rw [k.2 0 (by decide)]; exact h.2.1
  · rw [k.2 19 (by decide)]; exact h.2.2.1
  · rw [k.2 0 (by decide)]; exact h.2.2.2.1 j hj
  · rw [k.2 o (fun q => ho (List.mem_cons_of_mem _ (List.mem_cons_of_mem _ (List.mem_cons_of_mem _ q))))]; exact h.2.2.2.2 o ho
theorem kl.v {τ : Sg} {x : Int32} {L : Nat → Int32} (h : kl σ x L τ) : stV τ 1 = stV σ 1 := by
  have : ∀ o, 1 ≤ o → o ≤ 7 → τ.1 o = σ.1 o := fun o h1 h2 => h.2.2.2.2 o (by
    intro q
    simp at q
    omega)
  funext k
  unfold stV
  split
  · rw [this _ (by omega) (by omega)]
  · rw [this 1 (by omega) (by omega)]
theorem kl_0 {x : Int32} : kl σ x (σ.1 19) (upA σ.1 0 (upd (σ.1 0) 13 x), σ.2) := by
  refine ⟨rfl, ?_, ?_, fun j hj => ?_, fun o ho => ?_⟩
  · show upA σ.1 0 (upd (σ.1 0) 13 x) 0 13 = x
    rw [upA_s, upd_s]
  · show upA σ.1 0 (upd (σ.1 0) 13 x) 19 = σ.1 19
    rw [upA_n (by decide)]
  · show upA σ.1 0 (upd (σ.1 0) 13 x) 0 j = σ.1 0 j
    rw [upA_s, upd_n (fun e => hj (by rw [e]; decide))]
  · show upA σ.1 0 (upd (σ.1 0) 13 x) o = σ.1 o
    rw [upA_n (fun e => ho (by rw [e]; decide))]
theorem kl_put {τ : Sg} {x : Int32} {L : Nat → Int32} (h : kl σ x L τ) (y z : Int32) : kl σ 2 (upd (upd L 0 y) 1 z) (upA (upA τ.1 19 (upd (upd (τ.1 19) 0 y) 1 z)) 0 (upd (τ.1 0) 13 2), τ.2) := by
  refine ⟨h.1, ?_, ?_, fun j hj => ?_, fun o ho => ?_⟩
  · show upA (upA τ.1 19 (upd (upd (τ.1 19) 0 y) 1 z)) 0 (upd (τ.1 0) 13 2) 0 13 = 2
    rw [upA_s, upd_s]
  · show upA (upA τ.1 19 (upd (upd (τ.1 19) 0 y) 1 z)) 0 (upd (τ.1 0) 13 2) 19 = _
    rw [upA_n (by decide), upA_s, h.2.2.1]
  · show upA (upA τ.1 19 (upd (upd (τ.1 19) 0 y) 1 z)) 0 (upd (τ.1 0) 13 2) 0 j = _
    rw [upA_s, upd_n (fun e => hj (by rw [e]; decide))]
    exact h.2.2.2.1 j hj
  · show upA (upA τ.1 19 (upd (upd (τ.1 19) 0 y) 1 z)) 0 (upd (τ.1 0) 13 2) o = _
    rw [upA_n (fun e => ho (by rw [e]; decide)), upA_n (fun e => ho (by rw [e]; decide))]
    exact h.2.2.2.2 o ho
/-- two who reach, over the component -/
def reachCE (ρ : Rho) (v : Nat → Int32) (L : Nat → Int32) (m n : Int32) : RP8 :=
  if idx m (ρ.1 0) && idx n (ρ.1 0) && decide (m ≠ n) && decide (freeE v (ρ.1 0) (ρ.1 1) ≠ 0) then rpO (misE (eC ρ) v) m.toNatClampNeg n.toNatClampNeg (freeE v (ρ.1 0) (ρ.1 1)) (ρ.1 1) (0, 0, L) (ρ.1 1) else (-1, 0, L)
theorem reachCM (d : Nat) (m n : Int32) (hT : tlV ρ) (hN : okNow ρ (stV σ 1)) : ∃ σ1, Tv ρ E A mX0_reach (d + 304) 0 0 [.ref (A 0), .int m, .int n] σ (some (.int (reachCE ρ (stV σ 1) (σ.1 19) m n).1)) σ1 ∧ kl σ (reachCE ρ (stV σ 1) (σ.1 19) m n).2.1 (reachCE ρ (stV σ 1) (σ.1 19) m n).2.2 σ1 := by
  have h6 := hT.1
  have h6c := hT.2.1
  generalize hv : stV σ 1 = v
  rw [hv] at hN
  generalize hσ0 : ((upA σ.1 0 (upd (σ.1 0) 13 0), σ.2) : Sg) = σ0
  have k0 : kl σ 0 (σ.1 19) σ0 := by rw [← hσ0]; exact kl_0
  have ev0 : stV σ0 1 = v := by rw [k0.v]; exact hv
  have go : ∀ {r σ1}, σ1.2 = σ.2 → Rv ρ E A mX0_reach (d + 304) 0 0 10 [.ref (A 0), .int m, .int n, .int 0, .int 0, U_, U_] [] σ0 r σ1 → Tv ρ E A mX0_reach (d + 304) 0 0 [.ref (A 0), .int m, .int n] σ r σ1 := fun h2 h => Tv.of [.ref (A 0), .int m, .int n, U_, U_, U_, U_] (by decide) rfl (fun _ => Nat.le_of_ble_eq_true rfl) h2 (gc_X0_reach_0 (by rw [hσ0]; exact h))
  -- the free coats
  obtain ⟨f, τ, ⟨a1, a2⟩, a3⟩ := iterC (T := Int32) (fun k f τ r σ1 => Rv ρ E A mX0_reach (d + 304) 0 0 10 [.ref (A 0), .int m, .int n, .int f, .int (nI k), U_, U_] [] τ r σ1) (fun k f τ => f = set8 (fun c => decide (¬ 0 ≤ wearer8 v (nI c) (ρ.1 0))) k ∧ τ = σ0) (ρ.1 1) (by
    rintro k f τ hk ⟨q0, rfl⟩
    have hw := wearCn (d + 302) (ρ := ρ) (E := E) (A := A) (σ := τ) (c := k) h6 (by omega) (by rw [ev0]; exact hN.2.2.1) (by rw [ev0]; exact hN.2.2.2)
    rw [ev0] at hw
    refine ⟨_, τ, ⟨rfl, rfl⟩, fun r σ1 h => ?_⟩
    refine gc_X0_reach_10 ⟨_, _, coatsC (d + 301), fun q => absurd q (nI_ge hk (by omega)), fun _ => ⟨_, _, hw, fun q => ?_, fun q => ?_⟩⟩
    · rw [nI_1, q0, set_f (f := fun c => decide (¬ 0 ≤ wearer8 v (nI c) (ρ.1 0))) (decide_eq_false (fun z => z q))]
      exact h
    · rw [nI_1, q0, set_t (f := fun c => decide (¬ 0 ≤ wearer8 v (nI c) (ρ.1 0))) (decide_eq_true q)]
      exact h) 0 0 σ0 (Nat.zero_le _) ⟨rfl, rfl⟩
  subst a2
  have ef : f = freeE v (ρ.1 0) (ρ.1 1) := a1
  have q1 := isManC (d + 300) (E := E) (A := A) (σ := τ) m h6
  have q2 := isManC (d + 300) (E := E) (A := A) (σ := τ) n h6
  have go2 : ∀ {r σ1}, σ1.2 = σ.2 → _ → Tv ρ E A mX0_reach (d + 304) 0 0 [.ref (A 0), .int m, .int n] σ r σ1 := fun h2 h => go h2 (a3 _ _ (gc_X0_reach_10 ⟨_, _, coatsC (d + 301), fun _ => ⟨_, _, q1, h⟩, fun q => absurd (nI_le (Nat.le_refl _) (by omega)) q⟩))
  unfold reachCE
  rw [← ef]
  cases h1 : idx m (ρ.1 0) with
  | false => exact ⟨τ, go2 k0.1 ⟨fun _ => ⟨rfl, rfl⟩, fun q => absurd (bi_f h1) q⟩, k0⟩
  | true =>
  cases h2 : idx n (ρ.1 0) with
  | false => exact ⟨τ, go2 k0.1 ⟨fun q => absurd q (bi_t h1), fun _ => ⟨_, _, q2, fun _ => ⟨rfl, rfl⟩, fun q => absurd (bi_f h2) q⟩⟩, k0⟩
  | true =>
  by_cases h3 : m = n
  · rw [decide_eq_false (fun z => z h3)]
    exact ⟨τ, go2 k0.1 ⟨fun q => absurd q (bi_t h1), fun _ => ⟨_, _, q2, fun q => absurd q (bi_t h2), fun _ => ⟨fun _ => ⟨rfl, rfl⟩, fun q => absurd h3 q⟩⟩⟩, k0⟩
  rw [decide_eq_true h3]
  by_cases h4 : f = 0
  · rw [decide_eq_false (fun z => z h4)]
    exact ⟨τ, go2 k0.1 ⟨fun q => absurd q (bi_t h1), fun _ => ⟨_, _, q2, fun q => absurd q (bi_t h2), fun _ => ⟨fun q => absurd q h3, fun _ => ⟨fun q => absurd h4 q, fun _ => ⟨rfl, rfl⟩⟩⟩⟩⟩, k0⟩
  rw [decide_eq_true h4, if_pos (by decide : (true && true && true && true) = true)]
  obtain ⟨m', hm, em⟩ := idx_of h1 (by omega)
  obtain ⟨n', hn, en⟩ := idx_of h2 (by omega)
  subst em; subst en
  have cm : (nI m').toNatClampNeg = m' := cl (by omega)
  have cn : (nI n').toNatClampNeg = n' := cl (by omega)
  rw [cm, cn]
  generalize hill : misE (eC ρ) v = ill
  obtain ⟨p, τ1, ⟨b1, b2, b4⟩, b3⟩ := iterC (T := RP8) (fun x p τ r σ1 => Rv ρ E A mX0_reach (d + 304) 0 0 77 [.ref (A 0), .int (nI m'), .int (nI n'), .int f, .int p.1, .int (nI x), U_] [] τ r σ1) (fun x p τ => p = rpO ill m' n' f (ρ.1 1) (0, 0, σ.1 19) x ∧ kl σ p.2.1 p.2.2 τ ∧ ∃ a, a ≤ 6 * x ∧ p.1 = nI a) (ρ.1 1) (by
    rintro x p τ1 hx ⟨z0, z1, a, ha, ea⟩
    obtain ⟨p', τ2, ⟨c1, c2, c4⟩, c3⟩ := iterC (T := RP8) (fun y p τ r σ1 => Rv ρ E A mX0_reach (d + 304) 0 0 89 [.ref (A 0), .int (nI m'), .int (nI n'), .int f, .int p.1, .int (nI x), .int (nI y)] [] τ r σ1) (fun y p1 τ => p1 = rpI ill m' n' f (ρ.1 1) x p y ∧ kl σ p1.2.1 p1.2.2 τ ∧ ∃ a, a ≤ 6 * x + y ∧ p1.1 = nI a) (ρ.1 1) (by
      rintro y p1 τ2 hy ⟨y0, y1, a, ha, ea⟩
      have ev : stV τ2 1 = v := by rw [y1.v]; exact hv
      have hex : ¬ nI (ρ.1 1) ≤ nI y := nI_ge hy (by omega)
      have es : rpI ill m' n' f (ρ.1 1) x p (y + 1) = rpS x y (rpOk ill m' n' f (ρ.1 1) x y) p1 := by rw [rpI_s, ← y0]
      have no : rpOk ill m' n' f (ρ.1 1) x y = false → ∀ {r σ1}, Rv ρ E A mX0_reach (d + 304) 0 0 89 [.ref (A 0), .int (nI m'), .int (nI n'), .int f, .int (rpS x y (rpOk ill m' n' f (ρ.1 1) x y) p1).1, .int (nI x), .int (nI (y + 1))] [] τ2 r σ1 → Rv ρ E A mX0_reach (d + 304) 0 0 89 [.ref (A 0), .int (nI m'), .int (nI n'), .int f, .int p1.1, .int (nI x), .int (nI y + 1)] [] τ2 r σ1 := by
        intro h r σ1 hq
        rw [h] at hq
        rw [nI_1]
        exact hq
      have ko : rpOk ill m' n' f (ρ.1 1) x y = false → kl σ (rpS x y (rpOk ill m' n' f (ρ.1 1) x y) p1).2.1 (rpS x y (rpOk ill m' n' f (ρ.1 1) x y) p1).2.2 τ2 ∧ ∃ a, a ≤ 6 * x + (y + 1) ∧ (rpS x y (rpOk ill m' n' f (ρ.1 1) x y) p1).1 = nI a := by
        intro h
        rw [h]
        exact ⟨y1, a, by omega, ea⟩
      have ebx : bz f x = decide (s0_has f (nI x) = 0) := bz_has f x
      have eby : bz f y = decide (s0_has f (nI y) = 0) := bz_has f y
      by_cases d1 : s0_has f (nI x) = 0
      · have h9 : rpOk ill m' n' f (ρ.1 1) x y = false := by unfold rpOk; rw [ebx, decide_eq_true d1]; rfl
        refine ⟨_, τ2, ⟨es.symm, (ko h9).1, (ko h9).2⟩, fun r σ1 h => ?_⟩
        exact gc_X0_reach_89 ⟨_, _, coatsC (d + 301), fun q => absurd q hex, fun _ => ⟨fun _ => no h9 h, fun q => absurd d1 q⟩⟩
      by_cases d2 : s0_has f (nI y) = 0
      · have h9 : rpOk ill m' n' f (ρ.1 1) x y = false := by unfold rpOk; rw [eby, decide_eq_true d2]; exact Bool.and_false _
        refine ⟨_, τ2, ⟨es.symm, (ko h9).1, (ko h9).2⟩, fun r σ1 h => ?_⟩
        exact gc_X0_reach_89 ⟨_, _, coatsC (d + 301), fun q => absurd q hex, fun _ => ⟨fun q => absurd q d1, fun _ => ⟨fun _ => no h9 h, fun q => absurd d2 q⟩⟩⟩
      obtain ⟨τ3, g1, g2⟩ := restsC d (E := E) (A := A) (σ := τ2) (x := x) (y := y) hT ev hN hm hn hx hy
      rw [hill, ← ef] at g1
      have hok : rpOk ill m' n' f (ρ.1 1) x y = restE ill m' n' x y f (ρ.1 1) := by
        unfold rpOk
        rw [ebx, eby, decide_eq_false d1, decide_eq_false d2]
        rfl
      have y3 : kl σ p1.2.1 p1.2.2 τ3 := y1.kc g2
      cases hr : restE ill m' n' x y f (ρ.1 1) with
      | false =>
        rw [hr] at g1
        have h9 : rpOk ill m' n' f (ρ.1 1) x y = false := by rw [hok, hr]
        refine ⟨_, τ3, ⟨es.symm, by rw [h9]; exact y3, by rw [h9]; exact ⟨a, by omega, ea⟩⟩, fun r σ1 h => ?_⟩
        rw [h9] at h
        refine gc_X0_reach_89 ⟨_, _, coatsC (d + 301), fun q => absurd q hex, fun _ => ⟨fun q => absurd q d1, fun _ => ⟨fun q => absurd q d2, fun _ => ⟨_, _, g1, fun q => absurd rfl q, fun _ => ?_⟩⟩⟩⟩
        rw [nI_1]
        exact h
      | true =>
        rw [hr] at g1
        have h9 : rpOk ill m' n' f (ρ.1 1) x y = true := by rw [hok, hr]
        have e1 : p1.1 + 1 = nI (a + 1) := by rw [ea, nI_1]
        by_cases d3 : a = 0
        · subst d3
          have ez : p1.1 = 0 := ea
          have eS : rpS x y true p1 = (p1.1 + 1, 2, upd (upd p1.2.2 0 (nI x)) 1 (nI y)) := by
            unfold rpS
            rw [if_pos rfl, if_pos ez]
          refine ⟨_, _, ⟨es.symm, by rw [h9, eS]; exact kl_put y3 (nI x) (nI y), by rw [h9, eS]; exact ⟨1, by omega, e1⟩⟩, fun r σ1 h => ?_⟩
          rw [h9, eS] at h
          refine gc_X0_reach_89 ⟨_, _, coatsC (d + 301), fun q => absurd q hex, fun _ => ⟨fun q => absurd q d1, fun _ => ⟨fun q => absurd q d2, fun _ => ⟨_, _, g1, fun _ => ⟨fun _ => ?_, fun q => absurd (by rw [e1]; decide) q⟩, fun q => absurd q (by decide)⟩⟩⟩⟩
          rw [nI_1]
          exact h
        · have ez : ¬ p1.1 = 0 := by rw [ea]; exact nI_ne0 (by omega) (by omega)
          have eS : rpS x y true p1 = (p1.1 + 1, p1.2) := by
            unfold rpS
            rw [if_pos rfl, if_neg ez]
          refine ⟨_, τ3, ⟨es.symm, by rw [h9, eS]; exact y3, by rw [h9, eS]; exact ⟨a + 1, by omega, e1⟩⟩, fun r σ1 h => ?_⟩
          rw [h9, eS] at h
          have hgt : ¬ p1.1 + 1 ≤ 1 := by rw [e1]; exact nI_ge (b := a + 1) (a := 1) (by omega) (by omega)
          refine gc_X0_reach_89 ⟨_, _, coatsC (d + 301), fun q => absurd q hex, fun _ => ⟨fun q => absurd q d1, fun _ => ⟨fun q => absurd q d2, fun _ => ⟨_, _, g1, fun _ => ⟨fun q => absurd q hgt, fun _ => ?_⟩, fun q => absurd q (by decide)⟩⟩⟩⟩
          rw [nI_1]
          exact h) 0 p τ1 (Nat.zero_le _) ⟨rfl, z1, a, by omega, ea⟩
    refine ⟨p', τ2, ⟨by rw [rpO_s, ← z0]; exact c1, c2, ?_⟩, fun r σ1 h => ?_⟩
    · obtain ⟨a', ha', ea'⟩ := c4
      exact ⟨a', by omega, ea'⟩
    · refine gc_X0_reach_77 ⟨_, _, coatsC (d + 301), fun q => absurd q (nI_ge hx (by omega)), fun _ => c3 _ _ (gc_X0_reach_89 ⟨_, _, coatsC (d + 301), fun _ => ?_, fun q => absurd (nI_le (Nat.le_refl _) (by omega)) q⟩)⟩
      rw [nI_1]
      exact h) 0 (0, 0, σ.1 19) τ (Nat.zero_le _) ⟨rfl, k0, 0, by omega, rfl⟩
  rw [← b1]
  exact ⟨τ1, go2 b2.1 ⟨fun q => absurd q (bi_t h1), fun _ => ⟨_, _, q2, fun q => absurd q (bi_t h2), fun _ => ⟨fun q => absurd q h3, fun _ => ⟨fun _ => b3 _ _ (gc_X0_reach_77 ⟨_, _, coatsC (d + 301), fun _ => ⟨rfl, rfl⟩, fun q => absurd (nI_le (Nat.le_refl _) (by omega)) q⟩), fun q => absurd q h4⟩⟩⟩⟩, b2⟩
end C8
