/-! the component: dressings -/
set_option maxRecDepth 100000
section C9
variable {ρ : Rho} {E : Hp → Prop} {A : Nat → Nat} {σ : Sg}
def rwV (nc x : Nat) : Int32 := if x = nc then -1 else nI x
/-- while it dresses: the best so far p, the first m of the trial by D -/
def dst (nc : Nat) (σ : Sg) (p : DP8) (m : Nat) (D : Nat → Nat) (τ : Sg) : Prop := τ.2 = σ.2 ∧ τ.1 0 14 = p.1 ∧ (p.1 = -1 ∨ τ.1 0 15 = p.2.1) ∧ τ.1 19 = p.2.2 ∧ (∀ i, i < m → τ.1 20 i = rwV nc (D i)) ∧ (p.1 = -1 ∨ ∃ a, a ≤ 6 ∧ p.1 = nI a) ∧ (∀ j, j ∉ [14, 15] → τ.1 0 j = σ.1 0 j) ∧ ∀ o, o ∉ [0, 19, 20, 30] → τ.1 o = σ.1 o
theorem dst.v {nc m : Nat} {p : DP8} {D : Nat → Nat} {τ : Sg} (h : dst nc σ p m D τ) : stV τ 1 = stV σ 1 := by
  have : ∀ o, 1 ≤ o → o ≤ 7 → τ.1 o = σ.1 o := fun o h1 h2 => h.2.2.2.2.2.2.2 o (by
    intro q
    simp at q
    omega)
  funext k
  unfold stV
  split
  · rw [this _ (by omega) (by omega)]
  · rw [this 1 (by omega) (by omega)]
theorem dst.kc {nc m : Nat} {p : DP8} {D : Nat → Nat} {τ τ1 : Sg} (h : dst nc σ p m D τ) (k : kc [30] τ τ1) : dst nc σ p m D τ1 := by
  obtain ⟨a1, a2, a3, a4, a5, a6, a7, a8⟩ := h
  have e0 := k.2 0 (by decide)
  refine ⟨k.1.trans a1, by rw [e0]; exact a2, by rw [e0]; exact a3, by rw [k.2 19 (by decide)]; exact a4, by rw [k.2 20 (by decide)]; exact a5, a6, by rw [e0]; exact a7, fun o ho => ?_⟩
  rw [k.2 o (fun q => ho (List.mem_cons_of_mem _ (List.mem_cons_of_mem _ (List.mem_cons_of_mem _ q))))]
  exact a8 o ho
/-- the trial of man m -/
theorem dst.put {nc m x : Nat} {p : DP8} {D D' : Nat → Nat} {τ : Sg} (h : dst nc σ p m D τ) (hD : ∀ i, i < m → D' i = D i) (hx : D' m = x) : dst nc σ p (m + 1) D' (upA τ.1 20 (upd (τ.1 20) m (rwV nc x)), τ.2) := by
  obtain ⟨a1, a2, a3, a4, a5, a6, a7, a8⟩ := h
  have e : ∀ o, o ≠ 20 → upA τ.1 20 (upd (τ.1 20) m (rwV nc x)) o = τ.1 o := fun o ho => upA_n ho
  refine ⟨a1, ?_, ?_, ?_, fun i hi => ?_, a6, fun j hj => ?_, fun o ho => ?_⟩
  · show upA τ.1 20 (upd (τ.1 20) m (rwV nc x)) 0 14 = _
    rw [e 0 (by decide)]; exact a2
  · show p.1 = -1 ∨ upA τ.1 20 (upd (τ.1 20) m (rwV nc x)) 0 15 = _
    rw [e 0 (by decide)]; exact a3
  · show upA τ.1 20 (upd (τ.1 20) m (rwV nc x)) 19 = _
    rw [e 19 (by decide)]; exact a4
  · show upA τ.1 20 (upd (τ.1 20) m (rwV nc x)) 20 i = _
    rw [upA_s]
    by_cases q : i = m
    · subst q; rw [upd_s, hx]
    · rw [upd_n q, hD i (by omega)]; exact a5 i (by omega)
  · show upA τ.1 20 (upd (τ.1 20) m (rwV nc x)) 0 j = _
    rw [e 0 (by decide)]; exact a7 j hj
  · show upA τ.1 20 (upd (τ.1 20) m (rwV nc x)) o = _
    rw [e o (fun q => ho (by rw [q]; decide))]; exact a8 o ho
theorem dst.less {nc m : Nat} {p : DP8} {D D' : Nat → Nat} {τ : Sg} (h : dst nc σ p (m + 1) D' τ) (hD : ∀ i, i < m → D' i = D i) : dst nc σ p m D τ := by
  obtain ⟨a1, a2, a3, a4, a5, a6, a7, a8⟩ := h
  exact ⟨a1, a2, a3, a4, fun i hi => by rw [← hD i hi]; exact a5 i (by omega), a6, a7, a8⟩
theorem goDressC (hT : tlV ρ) (hN : okNow ρ (stV σ 1)) : ∀ (n d m q : Nat) (τ : Sg) (p : DP8) (u : Int32), m + n = ρ.1 0 → okD (misE (eC ρ) (stV σ 1)) (rgI ρ 9) (ρ.1 1) (pD (ρ.1 1 + 1) q m) m → usd (ρ.1 1) u (fun c => ∃ i, i < m ∧ pD (ρ.1 1 + 1) q m i = c) → dst (ρ.1 1) σ p m (pD (ρ.1 1 + 1) q m) τ →
    ∃ τ1, Tv ρ E A mX0_goDress (d + n + 303) 0 0 [.ref (A 0), .int (nI m), .int u, .int (nI (cntD (ρ.1 1) (pD (ρ.1 1 + 1) q m) m)), .int (sumD (misE (eC ρ) (stV σ 1)) (ρ.1 1) (pD (ρ.1 1 + 1) q m) m)] τ none τ1 ∧ dst (ρ.1 1) σ (goR (misE (eC ρ) (stV σ 1)) (rgI ρ 9) (ρ.1 0) (ρ.1 1) n q p) m (pD (ρ.1 1 + 1) q m) τ1 := by
  have h6 := hT.1
  have h6c := hT.2.1
  generalize hv : stV σ 1 = v
  rw [hv] at hN
  have hst : ∀ a c, fitE (eC ρ) v a c = decide (misE (eC ρ) v a c ≤ rgI ρ 9) := fun _ _ => rfl
  have hmis : ∀ a c, misE (eC ρ) v a c = misE (eC ρ) v a c := fun _ _ => rfl
  generalize hill : misE (eC ρ) v = ill at hst
  intro n
  induction n with
  | zero =>
    intro d m q τ p u hm hok hu hd
    have em : m = ρ.1 0 := by omega
    obtain ⟨a1, a2, a3, a4, a5, a6, a7, a8⟩ := hd
    have go : ∀ {r σ1}, σ1.2 = τ.2 → _ → Tv ρ E A mX0_goDress (d + 0 + 303) 0 0 [.ref (A 0), .int (nI m), .int u, .int (nI (cntD (ρ.1 1) (pD (ρ.1 1 + 1) q m) m)), .int (sumD ill (ρ.1 1) (pD (ρ.1 1 + 1) q m) m)] τ r σ1 := fun h2 h => Tv.of [.ref (A 0), .int (nI m), .int u, .int (nI (cntD (ρ.1 1) (pD (ρ.1 1 + 1) q m) m)), .int (sumD ill (ρ.1 1) (pD (ρ.1 1 + 1) q m) m), U_] (by decide) rfl (fun _ => Nat.le_of_ble_eq_true rfl) h2 (gc_X0_goDress_0 ⟨_, _, menC (d + 300), h⟩)
    have hle := cntD_le (ρ.1 1) (pD (ρ.1 1 + 1) q m) m
    have eN : dpN ill (rgI ρ 9) (ρ.1 0) (ρ.1 1) q = nI (cntD (ρ.1 1) (pD (ρ.1 1 + 1) q m) m) := by
      rw [em] at hok ⊢
      exact dpN_ok h6c hok
    have eI : ilE ill (ρ.1 0) (ρ.1 1) q (ρ.1 0) = sumD ill (ρ.1 1) (pD (ρ.1 1 + 1) q m) m := by rw [em]; rfl
    have eg : goR ill (rgI ρ 9) (ρ.1 0) (ρ.1 1) 0 q p = dpS ill (rgI ρ 9) (ρ.1 0) (ρ.1 1) q p := rfl
    rw [eg]
    unfold dpS
    rw [eN, eI]
    generalize hcn : cntD (ρ.1 1) (pD (ρ.1 1 + 1) q m) m = cn at hle go
    generalize hsm : sumD ill (ρ.1 1) (pD (ρ.1 1 + 1) q m) m = sm at go
    rw [if_neg (nI_nneg (by omega))]
    by_cases c1 : nI cn < p.1
    · rw [if_pos c1]
      exact ⟨τ, go rfl ⟨fun z => absurd (by rw [em]) z, fun _ => ⟨fun _ => ⟨rfl, rfl⟩, fun z => absurd (by rw [a2]; exact c1) z⟩⟩, a1, a2, a3, a4, a5, a6, a7, a8⟩
    rw [if_neg c1]
    generalize hτ1 : ((upA (upA τ.1 0 (upd (upd (τ.1 0) 14 (nI cn)) 15 sm)) 19 (va_cpy (τ.1 20) (τ.1 19) 0 0 m), τ.2) : Sg) = τ1
    have s34 : Rv ρ E A mX0_goDress (d + 0 + 303) 0 0 34 [.ref (A 0), .int (nI m), .int u, .int (nI cn), .int sm, U_] [] τ none τ1 := gc_X0_goDress_34 ⟨⟨nI_nneg (by omega), by rw [cl (by omega)]; omega⟩, rfl, by rw [cl (by omega), hτ1]⟩
    have e1 : τ1.1 = upA (upA τ.1 0 (upd (upd (τ.1 0) 14 (nI cn)) 15 sm)) 19 (va_cpy (τ.1 20) (τ.1 19) 0 0 m) := by rw [← hτ1]
    have e2 : τ1.2 = τ.2 := by rw [← hτ1]
    have fin : dst (ρ.1 1) σ (nI cn, sm, cpk (fun m => rowD (ρ.1 1) q (ρ.1 0 - 1 - m)) p.2.2 (ρ.1 0)) m (pD (ρ.1 1 + 1) q m) τ1 := by
      refine ⟨e2.trans a1, ?_, Or.inr ?_, ?_, fun i hi => ?_, Or.inr ⟨cn, by omega, rfl⟩, fun j hj => ?_, fun o ho => ?_⟩
      · rw [e1, upA_n (by decide), upA_s, upd_n (by decide), upd_s]
      · rw [e1, upA_n (by decide), upA_s, upd_s]
      · rw [e1, upA_s]
        funext i
        unfold cpk
        dsimp only
        by_cases z : i < ρ.1 0
        · rw [if_pos z, pk_cpy_in (Nat.zero_le _) (by omega), Nat.zero_add, Nat.sub_zero, a5 i (by omega)]
          unfold rwV rowD pD
          rw [em]
        · rw [if_neg z, pk_cpy_out (by omega), a4]
      · rw [e1, upA_n (by decide), upA_n (by decide)]; exact a5 i hi
      · rw [e1, upA_n (by decide), upA_s, upd_n (fun z => hj (by rw [z]; decide)), upd_n (fun z => hj (by rw [z]; decide))]; exact a7 j hj
      · rw [e1, upA_n (fun z => ho (by rw [z]; decide)), upA_n (fun z => ho (by rw [z]; decide))]; exact a8 o ho
    have emn : nI m = nI (ρ.1 0) := by rw [em]
    have c1' : ¬ nI cn < τ.1 0 14 := by rw [a2]; exact c1
    by_cases c2 : nI cn = p.1
    · have hn1 : ¬ p.1 = -1 := by rw [← c2]; exact fun z => absurd (show (-1 : Int32) < 0 by decide) (by rw [← z]; exact nI_nneg (by omega))
      have e15 : τ.1 0 15 = p.2.1 := by
        rcases a3 with z | z
        · exact absurd z hn1
        · exact z
      by_cases c3 : sm < p.2.1
      · rw [if_neg (fun z => z.2 c3)]
        exact ⟨τ1, go e2 ⟨fun z => absurd emn z, fun _ => ⟨fun z => absurd z c1', fun _ => ⟨fun z => absurd (by rw [a2]; exact c2) z, fun _ => ⟨fun _ => s34, fun z => absurd (by rw [e15]; exact c3) z⟩⟩⟩⟩, fin⟩
      · rw [if_pos ⟨c2, c3⟩]
        exact ⟨τ, go rfl ⟨fun z => absurd emn z, fun _ => ⟨fun z => absurd z c1', fun _ => ⟨fun z => absurd (by rw [a2]; exact c2) z, fun _ => ⟨fun z => absurd (by rw [e15] at z; exact z) c3, fun _ => ⟨rfl, rfl⟩⟩⟩⟩⟩, a1, a2, a3, a4, a5, a6, a7, a8⟩
    · rw [if_neg (fun z => c2 z.1)]
      exact ⟨τ1, go e2 ⟨fun z => absurd emn z, fun _ => ⟨fun z => absurd z c1', fun _ => ⟨fun _ => s34, fun z => absurd (by rw [a2] at z; exact z) c2⟩⟩⟩, fin⟩
  | succ n ih =>
    intro d m q τ p u hm hok hu hd
    rw [show d + (n + 1) + 303 = (d + n + 1) + 303 by omega]
    generalize hcn : cntD (ρ.1 1) (pD (ρ.1 1 + 1) q m) m = cn
    generalize hsm : sumD ill (ρ.1 1) (pD (ρ.1 1 + 1) q m) m = sm
    have hne : ¬ nI m = nI (ρ.1 0) := nI_ne (by omega) (by omega) (by omega)
    have ck : (nI m).toNatClampNeg = m := cl (by omega)
    -- the next prefix
    have nx : ∀ c, c < ρ.1 1 + 1 → (c = ρ.1 1 ∨ ill m c ≤ rgI ρ 9 ∧ ∀ j, j < m → pD (ρ.1 1 + 1) q m j ≠ c) → okD ill (rgI ρ 9) (ρ.1 1) (pD (ρ.1 1 + 1) (q * (ρ.1 1 + 1) + c) (m + 1)) (m + 1) := fun c hc h => (okD_ext hc).mpr ⟨hok, h⟩
    have nc1 : ∀ c, c < ρ.1 1 + 1 → cntD (ρ.1 1) (pD (ρ.1 1 + 1) (q * (ρ.1 1 + 1) + c) (m + 1)) (m + 1) = cn + (if c = ρ.1 1 then 0 else 1) := fun c hc => by
      rw [cntD_s, pD_m hc, cntD_cg (fun i hi => pD_i hc hi), hcn]
    have ns1 : ∀ c, c < ρ.1 1 + 1 → sumD ill (ρ.1 1) (pD (ρ.1 1 + 1) (q * (ρ.1 1 + 1) + c) (m + 1)) (m + 1) = sm + (if c = ρ.1 1 then 0 else ill m c) := fun c hc => by
      rw [sumD_s, pD_m hc, sumD_cg (fun i hi => pD_i hc hi), hsm]
    obtain ⟨p1, τ1, ⟨b1, b2⟩, b3⟩ := iterC (T := DP8) (fun c p τ r σ1 => Rv ρ E A mX0_goDress ((d + n + 1) + 303) 0 0 63 [.ref (A 0), .int (nI m), .int u, .int (nI cn), .int sm, .int (nI c)] [] τ r σ1) (fun c p' τ => p' = acc8 (fun c p => goR ill (rgI ρ 9) (ρ.1 0) (ρ.1 1) n (q * (ρ.1 1 + 1) + c) p) p c ∧ dst (ρ.1 1) σ p' m (pD (ρ.1 1 + 1) q m) τ) (ρ.1 1) (by
      rintro c p' τ1 hc ⟨z0, z1⟩
      have ev : stV τ1 1 = v := by rw [z1.v]; exact hv
      have hex : ¬ nI (ρ.1 1) ≤ nI c := nI_ge hc (by omega)
      have es : acc8 (fun c p => goR ill (rgI ρ 9) (ρ.1 0) (ρ.1 1) n (q * (ρ.1 1 + 1) + c) p) p (c + 1) = goR ill (rgI ρ 9) (ρ.1 0) (ρ.1 1) n (q * (ρ.1 1 + 1) + c) p' := by rw [z0]; rfl
      have eh : s0_has u (nI c) = bi (hasB u c) := has_c u c
      by_cases d1 : hasB u c = true
      · have hno : ¬ okD ill (rgI ρ 9) (ρ.1 1) (pD (ρ.1 1 + 1) (q * (ρ.1 1 + 1) + c) (m + 1)) (m + 1) := by
          intro z
          rcases ((okD_ext (by omega)).mp z).2 with y | ⟨_, y⟩
          · omega
          · obtain ⟨i, h1, h2⟩ := (hu.2 c hc).mp d1
            exact y i h1 h2
        refine ⟨p', τ1, ⟨by rw [es, goR_no h6c n (m + 1) _ p' (by omega) hno], z1⟩, fun r σ1 h => ?_⟩
        refine gc_X0_goDress_63 ⟨_, _, coatsC (d + n + 1 + 300), fun z => absurd z hex, fun _ => ⟨fun _ => ?_, fun z => absurd z (by rw [eh, d1]; decide)⟩⟩
        rw [nI_1]
        exact h
      · have d1' : s0_has u (nI c) = 0 := by rw [eh]; exact bi_f (by simpa using d1)
        obtain ⟨τ2, f1, f2⟩ := fitCn (d + n + 1) (E := E) (A := A) (σ := τ1) (m := m) (c := c) hT (by omega) hc (by rw [ev]; exact hN.1)
        rw [ev, hst] at f1
        have z2 : dst (ρ.1 1) σ p' m (pD (ρ.1 1 + 1) q m) τ2 := z1.kc f2
        by_cases d2 : ill m c ≤ rgI ρ 9
        · rw [decide_eq_true d2] at f1
          have hfree : ∀ j, j < m → pD (ρ.1 1 + 1) q m j ≠ c := fun j hj he => d1 ((hu.2 c hc).mpr ⟨j, hj, he⟩)
          have z3 : dst (ρ.1 1) σ p' (m + 1) (pD (ρ.1 1 + 1) (q * (ρ.1 1 + 1) + c) (m + 1)) (upA τ2.1 20 (upd (τ2.1 20) m (nI c)), τ2.2) := by
            have := z2.put (D' := pD (ρ.1 1 + 1) (q * (ρ.1 1 + 1) + c) (m + 1)) (x := c) (fun i hi => pD_i (by omega) hi) (pD_m (by omega))
            unfold rwV at this
            rw [if_neg (show ¬ c = ρ.1 1 by omega)] at this
            exact this
          have ev3 : stV (upA τ2.1 20 (upd (τ2.1 20) m (nI c)), τ2.2) 1 = v := by rw [z3.v]; exact hv
          obtain ⟨τ4, g1, g2⟩ := misOwn (d + n + 2) (E := E) (A := A) (τ := (upA τ2.1 20 (upd (τ2.1 20) m (nI c)), τ2.2)) (m := m) (c := c) hT (by omega) hc (by rw [ev3]; exact hN)
          rw [ev3, hill] at g1
          have z4 := z3.kc g2
          have hu' : usd (ρ.1 1) (u ||| (1 <<< (nI c &&& 31))) (fun k => ∃ i, i < m + 1 ∧ pD (ρ.1 1 + 1) (q * (ρ.1 1 + 1) + c) (m + 1) i = k) := by
            refine usd_or h6c hc hu (fun k => ⟨?_, ?_⟩)
            · rintro ⟨i, h1, h2⟩
              by_cases y : i = m
              · subst y; rw [pD_m (by omega)] at h2; exact Or.inr h2.symm
              · rw [pD_i (by omega) (by omega)] at h2; exact Or.inl ⟨i, by omega, h2⟩
            · rintro (⟨i, h1, h2⟩ | h2)
              · exact ⟨i, by omega, by rw [pD_i (by omega) h1]; exact h2⟩
              · exact ⟨m, by omega, by rw [pD_m (by omega)]; exact h2.symm⟩
          obtain ⟨τ5, k1, k2⟩ := ih d (m + 1) (q * (ρ.1 1 + 1) + c) τ4 p' (u ||| (1 <<< (nI c &&& 31))) (by omega) (nx c (by omega) (Or.inr ⟨d2, hfree⟩)) hu' z4
          rw [nc1 c (by omega), ns1 c (by omega), if_neg (show ¬ c = ρ.1 1 by omega), if_neg (show ¬ c = ρ.1 1 by omega)] at k1
          refine ⟨_, τ5, ⟨es.symm, k2.less (fun i hi => pD_i (by omega) hi)⟩, fun r σ1 h => ?_⟩
          refine gc_X0_goDress_63 ⟨_, _, coatsC (d + n + 1 + 300), fun z => absurd z hex, fun _ => ⟨fun z => absurd d1' z, fun _ => ⟨_, _, f1, fun _ => ⟨vin (by omega) (by decide), _, τ4, by rw [ck]; exact g1, τ5, ?_, ?_⟩, fun z => absurd z (by decide)⟩⟩⟩
          · rw [nI_1, nI_1]
            exact k1
          · rw [nI_1]
            exact h
        · rw [decide_eq_false d2] at f1
          have hno : ¬ okD ill (rgI ρ 9) (ρ.1 1) (pD (ρ.1 1 + 1) (q * (ρ.1 1 + 1) + c) (m + 1)) (m + 1) := by
            intro z
            rcases ((okD_ext (by omega)).mp z).2 with y | ⟨y, _⟩
            · omega
            · exact d2 y
          refine ⟨p', τ2, ⟨by rw [es, goR_no h6c n (m + 1) _ p' (by omega) hno], z2⟩, fun r σ1 h => ?_⟩
          refine gc_X0_goDress_63 ⟨_, _, coatsC (d + n + 1 + 300), fun z => absurd z hex, fun _ => ⟨fun z => absurd d1' z, fun _ => ⟨_, _, f1, fun z => absurd rfl z, fun _ => ?_⟩⟩⟩
          rw [nI_1]
          exact h) 0 p τ (Nat.zero_le _) ⟨rfl, hd⟩
    -- none for him
    have z3 : dst (ρ.1 1) σ p1 (m + 1) (pD (ρ.1 1 + 1) (q * (ρ.1 1 + 1) + ρ.1 1) (m + 1)) (upA τ1.1 20 (upd (τ1.1 20) m (-1)), τ1.2) := by
      have := b2.put (D' := pD (ρ.1 1 + 1) (q * (ρ.1 1 + 1) + ρ.1 1) (m + 1)) (x := ρ.1 1) (fun i hi => pD_i (by omega) hi) (pD_m (by omega))
      unfold rwV at this
      rw [if_pos rfl] at this
      exact this
    have hu' : usd (ρ.1 1) u (fun k => ∃ i, i < m + 1 ∧ pD (ρ.1 1 + 1) (q * (ρ.1 1 + 1) + ρ.1 1) (m + 1) i = k) := by
      refine usd_cg hu (fun k hk => ⟨?_, ?_⟩)
      · rintro ⟨i, h1, h2⟩
        exact ⟨i, by omega, by rw [pD_i (by omega) h1]; exact h2⟩
      · rintro ⟨i, h1, h2⟩
        by_cases y : i = m
        · subst y; rw [pD_m (by omega)] at h2; omega
        · rw [pD_i (by omega) (by omega)] at h2; exact ⟨i, by omega, h2⟩
    obtain ⟨τ5, k1, k2⟩ := ih d (m + 1) (q * (ρ.1 1 + 1) + ρ.1 1) _ p1 u (by omega) (nx _ (by omega) (Or.inl rfl)) hu' z3
    rw [nc1 _ (by omega), ns1 _ (by omega), if_pos rfl, if_pos rfl, Int32.add_zero, Nat.add_zero] at k1
    refine ⟨τ5, Tv.of [.ref (A 0), .int (nI m), .int u, .int (nI cn), .int sm, U_] (by decide) rfl (fun _ => Nat.le_of_ble_eq_true rfl) (k2.1.trans hd.1.symm) (gc_X0_goDress_0 ⟨_, _, menC (d + n + 1 + 300), fun _ => b3 _ _ (gc_X0_goDress_63 ⟨_, _, coatsC (d + n + 1 + 300), fun _ => ⟨vin (by omega) (by decide), τ5, ?_, rfl, rfl⟩, fun z => absurd (nI_le (Nat.le_refl _) (by omega)) z⟩), fun z => absurd z hne⟩), ?_⟩
    · rw [nI_1, ck]
      exact k1
    · have eg : goR ill (rgI ρ 9) (ρ.1 0) (ρ.1 1) (n + 1) q p = goR ill (rgI ρ 9) (ρ.1 0) (ρ.1 1) n (q * (ρ.1 1 + 1) + ρ.1 1) p1 := by
        rw [goR_s, b1]
        rfl
      rw [eg]
      exact k2.less (fun i hi => pD_i (by omega) hi)
theorem goR_pos {ill : Nat → Nat → Int32} {st : Int32} {nm nc : Nat} (hc6 : nc ≤ 6) (h6 : nm ≤ 6) : ∀ n m q p, m + n = nm → okD ill st nc (pD (nc + 1) q m) m → (goR ill st nm nc n q p).1 ≠ -1 := by
  intro n
  induction n with
  | zero =>
    intro m q p hm h
    have : m = nm := by omega
    subst this
    have hle := cntD_le nc (pD (nc + 1) q m) m
    have hn : ∀ x : Nat, x ≤ 6 → nI x ≠ -1 := fun x hx z => absurd (show (-1 : Int32) < 0 by decide) (by rw [← z]; exact nI_nneg (by omega))
    show (dpS ill st m nc q p).1 ≠ -1
    unfold dpS
    rw [dpN_ok hc6 h, if_neg (nI_nneg (by omega))]
    split
    · rename_i z
      intro y
      rw [y] at z
      exact absurd (Int32.lt_trans z (show (-1 : Int32) < 0 by decide)) (nI_nneg (by omega))
    · split
      · rename_i z
        rw [← z.1]
        exact hn _ (by omega)
      · exact hn _ (by omega)
  | succ n ih =>
    intro m q p hm h
    rw [goR_s]
    exact ih (m + 1) _ _ (by omega) ((okD_ext (by omega)).mpr ⟨h, Or.inl rfl⟩)
theorem dressCM (d : Nat) (what : Int32) (hT : tlV ρ) (hN : okNow ρ (stV σ 1)) :
    ∃ σ1, Tv ρ E A mX0_dress (d + 311) 0 0 [.ref (A 0), .int what] σ (some (.int (if s8_isIn what 0 1 = 0 then -1 else if what = 0 then (dpE (misE (eC ρ) (stV σ 1)) (rgI ρ 9) (ρ.1 0) (ρ.1 1) (σ.1 19) ((ρ.1 1 + 1) ^ ρ.1 0)).1 else (dpE (misE (eC ρ) (stV σ 1)) (rgI ρ 9) (ρ.1 0) (ρ.1 1) (σ.1 19) ((ρ.1 1 + 1) ^ ρ.1 0)).2.1))) σ1 ∧
      (s8_isIn what 0 1 = 0 → σ1 = σ) ∧ (¬ s8_isIn what 0 1 = 0 → kl σ (nI (ρ.1 0)) (dpE (misE (eC ρ) (stV σ 1)) (rgI ρ 9) (ρ.1 0) (ρ.1 1) (σ.1 19) ((ρ.1 1 + 1) ^ ρ.1 0)).2.2 σ1) := by
  have h6 := hT.1
  have h6c := hT.2.1
  have go : ∀ {r σ1}, σ1.2 = σ.2 → _ → Tv ρ E A mX0_dress (d + 311) 0 0 [.ref (A 0), .int what] σ r σ1 := fun h2 h => Tv.of [.ref (A 0), .int what] (by decide) rfl (fun _ => Nat.le_of_ble_eq_true rfl) h2 (gc_X0_dress_0 (d := d + 7) h)
  by_cases h1 : s8_isIn what 0 1 = 0
  · rw [if_pos h1]
    exact ⟨σ, go rfl ⟨fun q => absurd h1 q, fun _ => ⟨rfl, rfl⟩⟩, fun _ => rfl, fun q => absurd h1 q⟩
  rw [if_neg h1]
  have e0 : ∀ (o : Nat), o ≠ 0 → upA σ.1 0 (upd (σ.1 0) 14 (-1)) o = σ.1 o := fun o ho => upA_n ho
  have d0 : dst (ρ.1 1) σ (-1, 0, σ.1 19) 0 (pD (ρ.1 1 + 1) 0 0) (upA σ.1 0 (upd (σ.1 0) 14 (-1)), σ.2) := by
    refine ⟨rfl, ?_, Or.inl rfl, e0 19 (by decide), fun i hi => absurd hi (by omega), Or.inl rfl, fun j hj => ?_, fun o ho => ?_⟩
    · show upA σ.1 0 (upd (σ.1 0) 14 (-1)) 0 14 = -1
      rw [upA_s, upd_s]
    · show upA σ.1 0 (upd (σ.1 0) 14 (-1)) 0 j = _
      rw [upA_s, upd_n (fun z => hj (by rw [z]; decide))]
    · exact e0 o (fun z => ho (by rw [z]; decide))
  obtain ⟨τ1, k1, k2⟩ := goDressC (E := E) (A := A) hT hN (ρ.1 0) (d + 7 - ρ.1 0) 0 0 _ (-1, 0, σ.1 19) 0 (by omega) (fun i hi => absurd hi (by omega)) (usd_0 h6c (fun c ⟨i, hi, _⟩ => absurd hi (by omega))) d0
  rw [show d + 7 - ρ.1 0 + ρ.1 0 + 303 = d + 7 + 303 by omega] at k1
  have hpos := goR_pos (ill := misE (eC ρ) (stV σ 1)) (st := rgI ρ 9) (nm := ρ.1 0) (nc := ρ.1 1) h6c h6 (ρ.1 0) 0 0 (-1, 0, σ.1 19) (by omega) (fun i hi => absurd hi (by omega))
  rw [goR_0] at k2 hpos
  generalize dpE (misE (eC ρ) (stV σ 1)) (rgI ρ 9) (ρ.1 0) (ρ.1 1) (σ.1 19) ((ρ.1 1 + 1) ^ ρ.1 0) = P at k2 hpos
  obtain ⟨a1, a2, a3, a4, a5, a6, a7, a8⟩ := k2
  refine ⟨(upA τ1.1 0 (upd (τ1.1 0) 13 (nI (ρ.1 0))), τ1.2), go a1 ⟨fun _ => ⟨τ1, k1, _, τ1, menC (d + 308), ?_, rfl⟩, fun q => absurd q h1⟩, fun q => absurd q h1, fun _ => ?_⟩
  · by_cases w0 : what = 0
    · rw [if_pos w0, if_pos w0, a2]
    · rw [if_neg w0, if_neg w0]
      rcases a3 with z | z
      · exact absurd z hpos
      · rw [z]
  · refine ⟨a1, ?_, ?_, fun j hj => ?_, fun o ho => ?_⟩
    · show upA τ1.1 0 (upd (τ1.1 0) 13 (nI (ρ.1 0))) 0 13 = _
      rw [upA_s, upd_s]
    · show upA τ1.1 0 (upd (τ1.1 0) 13 (nI (ρ.1 0))) 19 = _
      rw [upA_n (by decide)]; exact a4
    · show upA τ1.1 0 (upd (τ1.1 0) 13 (nI (ρ.1 0))) 0 j = _
      rw [upA_s, upd_n (fun z => hj (by rw [z]; decide))]
      exact a7 j (fun z => hj (List.mem_cons_of_mem _ z))
    · show upA τ1.1 0 (upd (τ1.1 0) 13 (nI (ρ.1 0))) o = _
      rw [upA_n (fun z => ho (by rw [z]; decide))]; exact a8 o ho
end C9
