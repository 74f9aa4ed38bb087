/-! the component: how it would fit -/
set_option maxRecDepth 100000
section Lf
variable {ρ : Rho} {E : Hp → Prop} {A : Nat → Nat} {σ : Sg}
theorem grV_s (b : Nat → Int32) (g n : Nat) : grV b g (n + 1) = upd (upd (upd (grV b g n) 0 (s8_lesser 99 (grV b g n 0 + nI g))) 30 (s8_lesser 99 (grV b g n 30 + 1))) 37 (grV b g n 37 + 1) := rfl
theorem grV_at {b : Nat → Int32} {g x y : Nat} (hx : x ≤ 99) (hy : y ≤ 99) (hg : g ≤ 30) (e0 : b 0 = nI x) (e30 : b 30 = nI y) (e37 : b 37 = 0) : ∀ n, n ≤ 20 → grV b g n = upd (upd (upd b 0 (nI (min 99 (x + g * n)))) 30 (nI (min 99 (y + n)))) 37 (nI n) := by
  intro n
  induction n with
  | zero =>
    intro _
    show b = _
    funext j
    by_cases j1 : j = 37
    · subst j1; rw [upd_s, e37]; rfl
    · rw [upd_n j1]
      by_cases j2 : j = 30
      · subst j2; rw [upd_s, e30, Nat.add_zero, Nat.min_eq_right hy]
      · rw [upd_n j2]
        by_cases j3 : j = 0
        · subst j3; rw [upd_s, e0, Nat.mul_zero, Nat.add_zero, Nat.min_eq_right hx]
        · rw [upd_n j3]
  | succ n ih =>
    intro hn
    have hgn : g * n ≤ 30 * 20 := Nat.mul_le_mul hg (by omega)
    rw [grV_s, ih (by omega)]
    have a0 : (upd (upd (upd b 0 (nI (min 99 (x + g * n)))) 30 (nI (min 99 (y + n)))) 37 (nI n)) 0 = nI (min 99 (x + g * n)) := by rw [upd_n (by decide), upd_n (by decide), upd_s]
    have a30 : (upd (upd (upd b 0 (nI (min 99 (x + g * n)))) 30 (nI (min 99 (y + n)))) 37 (nI n)) 30 = nI (min 99 (y + n)) := by rw [upd_n (by decide), upd_s]
    have a37 : (upd (upd (upd b 0 (nI (min 99 (x + g * n)))) 30 (nI (min 99 (y + n)))) 37 (nI n)) 37 = nI n := by rw [upd_s]
    have m0 : s8_lesser 99 (nI (min 99 (x + g * n)) + nI g) = nI (min 99 (x + g * (n + 1))) := by
      have q : s8_lesser (nI 99) (nI (min 99 (x + g * n) + g)) = nI (min 99 (min 99 (x + g * n) + g)) := les_nI (by omega) (by omega)
      rw [nI_add]
      refine q.trans ?_
      rw [Nat.mul_succ]
      congr 1
      omega
    have m30 : s8_lesser 99 (nI (min 99 (y + n)) + 1) = nI (min 99 (y + (n + 1))) := by
      have q : s8_lesser (nI 99) (nI (min 99 (y + n) + 1)) = nI (min 99 (min 99 (y + n) + 1)) := les_nI (by omega) (by omega)
      rw [nI_1]
      refine q.trans ?_
      congr 1
      omega
    rw [a0, a30, a37, m0, m30, nI_1]
    funext j
    by_cases j1 : j = 37
    · subst j1; rw [upd_s, upd_s]
    · rw [upd_n j1, upd_n j1]
      by_cases j2 : j = 30
      · subst j2; rw [upd_s, upd_s]
      · rw [upd_n j2, upd_n j2]
        by_cases j3 : j = 0
        · subst j3; rw [upd_s, upd_s]
        · rw [upd_n j3, upd_n j3, upd_n j1, upd_n j2, upd_n j3]
/-- the beginning is sound -/
def okB (ρ : Rho) : Prop := rgV (begU ρ) (ρ.1 0) (ρ.1 1)
def wfC (ρ : Rho) (g dd : Nat) : Bool := fitE (eC ρ) (grV (begU ρ) g dd) 0 0
def lpl : List Nat := [8, 9, 10, 11, 12, 13, 14, 25, 30]
theorem begU_37 (ρ : Rho) : begU ρ 37 = 0 := by unfold begU; rfl
theorem layOne (d : Nat) {g n : Nat} (hT : tlV ρ) (hO : okB ρ) (h0 : 0 < ρ.1 0) (hc0 : 0 < ρ.1 1) (hg : g ≤ 30) (hn : n ≤ 20) : ∃ σ1, kc lpl σ σ1 ∧ σ1.1 25 = upd (σ.1 25) (21 * g + n) (bi (wfC ρ g n)) ∧ ∀ r σ2, Rv ρ E A mX0_layFits (d + 303) 0 0 10 [.ref (A 0), .int (nI g), .int (nI (n + 1))] [] σ1 r σ2 → Rv ρ E A mX0_layFits (d + 303) 0 0 10 [.ref (A 0), .int (nI g), .int (nI n)] [] σ r σ2 := by
  have h6 := hT.1
  have h6c := hT.2.1
  obtain ⟨τ, b1, b2, b3⟩ := begCt (d + 298) (ρ := ρ) (E := E) (A := A) (σ := σ) h6 h6c
  obtain ⟨x, hx, ex⟩ := okn_nI (hO.1 0 h0)
  obtain ⟨y, hy, ey⟩ := okn_nI (hO.2 0 hc0).2.2.2
  have ey' : begU ρ 30 = nI y := ey
  have hgn : g * n ≤ 30 * 20 := Nat.mul_le_mul hg hn
  have r9 : τ.1 9 0 = nI x := by rw [rdt0 (by decide), b3 0 (by decide), ex]
  have r14 : τ.1 14 0 = nI y := by rw [rdt5 (by decide), b3 30 (by decide), ey']
  have v9 : sj_min 99 (τ.1 9 0 + nI g * nI n) = nI (min 99 (x + g * n)) := by
    rw [r9, pk_mul, nI_add]
    exact min_n (a := 99) (by decide) (by omega)
  have v14 : sj_min 99 (τ.1 14 0 + nI n) = nI (min 99 (y + n)) := by
    rw [r14, nI_add]
    exact min_n (a := 99) (by decide) (by omega)
  generalize hτ1 : ((upA (upA (upA τ.1 9 (upd (τ.1 9) 0 (nI (min 99 (x + g * n))))) 14 (upd (τ.1 14) 0 (nI (min 99 (y + n))))) 8 (upd (τ.1 8) 7 (nI n)), τ.2) : Sg) = τ1
  have k1 : kc lpl σ τ1 := by
    rw [← hτ1]
    exact (((b2.mo (by decide) : kc lpl σ τ).up (o := 9) (by decide) _).up (o := 14) (by decide) _).up (o := 8) (by decide) _
  have v1 : stV τ1 8 = upd (upd (upd (stV τ 8) 0 (nI (min 99 (x + g * n)))) 30 (nI (min 99 (y + n)))) 37 (nI n) := by
    have a1 := svt0 (σ := τ) (w := τ.2) (k := 0) (x := nI (min 99 (x + g * n))) (by decide)
    have a2 := svt5 (σ := (upA τ.1 9 (upd (τ.1 9) 0 (nI (min 99 (x + g * n)))), τ.2)) (w := τ.2) (k := 0) (x := nI (min 99 (y + n))) (by decide)
    dsimp only at a2
    rw [upA_n (by decide), a1] at a2
    have a3 := svt7 (σ := (upA (upA τ.1 9 (upd (τ.1 9) 0 (nI (min 99 (x + g * n))))) 14 (upd (τ.1 14) 0 (nI (min 99 (y + n)))), τ.2)) (w := τ.2) (x := nI n)
    dsimp only at a3
    rw [upA_n (by decide), upA_n (by decide), a2] at a3
    rw [← hτ1]
    exact a3
  have ag : agv 6 (stV τ1 8) (grV (begU ρ) g n) := by
    rw [v1, grV_at hx hy hg ex ey' (begU_37 ρ) n hn]
    exact (((agv.of b3).up _ rfl).up _ rfl).up _ rfl
  have hrg : rgV (stV τ1 8) (ρ.1 0) (ρ.1 1) := by
    have hb : rgV (stV τ 8) (ρ.1 0) (ρ.1 1) := rgV_cg (agv.of (fun j hj => (b3 j hj).symm)) h6 h6c hO
    rw [v1]
    refine ⟨fun m hm => ?_, fun c hc => ?_⟩
    · rw [upd_n (by omega), upd_n (by omega)]
      by_cases e : m = 0
      · subst e; rw [upd_s]; exact nI_okn (by omega)
      · rw [upd_n e]; exact hb.1 m hm
    · rw [upd_n (show 12 + c ≠ 37 by omega), upd_n (show 12 + c ≠ 30 by omega), upd_n (show 12 + c ≠ 0 by omega), upd_n (show 18 + c ≠ 37 by omega), upd_n (show 18 + c ≠ 30 by omega), upd_n (show 18 + c ≠ 0 by omega), upd_n (show 24 + c ≠ 37 by omega), upd_n (show 24 + c ≠ 30 by omega), upd_n (show 24 + c ≠ 0 by omega), upd_n (show 30 + c ≠ 37 by omega)]
      refine ⟨(hb.2 c hc).1, (hb.2 c hc).2.1, (hb.2 c hc).2.2.1, ?_⟩
      by_cases e : c = 0
      · subst e; rw [upd_s]; exact nI_okn (by omega)
      · rw [upd_n (by omega), upd_n (by omega)]; exact (hb.2 c hc).2.2.2
  obtain ⟨τ2, f1, f2⟩ := fitCt d (E := E) (A := A) (σ := τ1) (m := 0) (c := 0) hT h0 hc0 hrg
  have ef : fitE (eC ρ) (stV τ1 8) 0 0 = wfC ρ g n := fit_cg (nm := 6) agE.rf ag (by decide) (by decide) (by decide)
  rw [ef] at f1
  have e21 : (21 : Int32) * nI g + nI n = nI (21 * g + n) := n21 g n
  have k2 : kc lpl σ τ2 := k1.tr (f2.mo (by decide))
  have o25 : τ2.1 25 = σ.1 25 := by
    rw [f2.2 25 (by decide), ← hτ1]
    dsimp only
    rw [upA_n (by decide), upA_n (by decide), upA_n (by decide)]
    exact b2.2 25 (by decide)
  refine ⟨(upA τ2.1 25 (upd (τ2.1 25) (21 * g + n) (bi (wfC ρ g n))), τ2.2), k2.up (o := 25) (by decide) _, ?_, fun r σ2 h => ?_⟩
  · show upA τ2.1 25 (upd (τ2.1 25) (21 * g + n) (bi (wfC ρ g n))) 25 = _
    rw [upA_s, o25]
  · refine gc_X0_layFits_10 ⟨fun q => absurd q (by rw [i32_nlt]; exact nI_le (b := 20) hn (by decide)), fun _ => ⟨τ, b1, bi (wfC ρ g n), τ2, ?_, by rw [e21]; exact vin (show 21 * g + n < 651 by omega) (by decide), ?_, ?_⟩⟩
    · rw [v9, v14, hτ1]
      exact f1
    · cases wfC ρ g n <;> rfl
    · rw [e21, cl (by omega), nI_1]
      exact h
theorem layC (d : Nat) (hT : tlV ρ) (hO : okB ρ) (h0 : 0 < ρ.1 0) (hc0 : 0 < ρ.1 1) : ∃ σ1, Tv ρ E A mX0_layFits (d + 303) 0 0 [.ref (A 0)] σ none σ1 ∧ kc lpl σ σ1 ∧ ∀ g dd, g ≤ 30 → dd ≤ 20 → σ1.1 25 (21 * g + dd) = bi (wfC ρ g dd) := by
  obtain ⟨_, τ, ⟨a1, a2⟩, a3⟩ := iterC (T := Unit) (fun g _ τ r σ1 => Rv ρ E A mX0_layFits (d + 303) 0 0 2 [.ref (A 0), .int (nI g), U_] [] τ r σ1) (fun g _ τ => kc lpl σ τ ∧ ∀ g' dd, g' < g → dd ≤ 20 → τ.1 25 (21 * g' + dd) = bi (wfC ρ g' dd)) 31 (by
    rintro g ⟨⟩ τ hg ⟨q1, q2⟩
    obtain ⟨_, τ1, ⟨c1, c2, c3⟩, c4⟩ := iterC (T := Unit) (fun n _ τ r σ1 => Rv ρ E A mX0_layFits (d + 303) 0 0 10 [.ref (A 0), .int (nI g), .int (nI n)] [] τ r σ1) (fun n _ τ1 => kc lpl σ τ1 ∧ (∀ g' dd, g' < g → dd ≤ 20 → τ1.1 25 (21 * g' + dd) = bi (wfC ρ g' dd)) ∧ ∀ dd, dd < n → τ1.1 25 (21 * g + dd) = bi (wfC ρ g dd)) 21 (by
      rintro n ⟨⟩ τ1 hn ⟨z1, z2, z3⟩
      obtain ⟨τ2, w1, w2, w3⟩ := layOne d (E := E) (A := A) (σ := τ1) (g := g) (n := n) hT hO h0 hc0 (by omega) (by omega)
      refine ⟨(), τ2, ⟨z1.tr w1, fun g' dd hg' hdd => ?_, fun dd hdd => ?_⟩, w3⟩
      · rw [w2, upd_n (by omega)]; exact z2 g' dd hg' hdd
      · rw [w2]
        by_cases e : dd = n
        · subst e; rw [upd_s]
        · rw [upd_n (by omega)]; exact z3 dd (by omega)) 0 () τ (Nat.zero_le _) ⟨q1, q2, fun dd hdd => absurd hdd (by omega)⟩
    refine ⟨(), τ1, ⟨c1, fun g' dd hg' hdd => ?_⟩, fun r σ1 h => ?_⟩
    · by_cases e : g' = g
      · subst e; exact c3 dd (by omega)
      · exact c2 g' dd (by omega) hdd
    · refine gc_X0_layFits_2 ⟨fun q => absurd q (by rw [i32_nlt]; exact nI_le (b := 30) (by omega) (by decide)), fun _ => c4 _ _ (gc_X0_layFits_10 ⟨fun _ => ?_, fun q => absurd (by decide) q⟩)⟩
      rw [nI_1]
      exact h) 0 () σ (Nat.zero_le _) ⟨kc.rf, fun g' dd hg' => absurd hg' (by omega)⟩
  exact ⟨τ, Tv.of [.ref (A 0), U_, U_] (by decide) rfl (fun _ => Nat.le_of_ble_eq_true rfl) a1.1 (gc_X0_layFits_0 (a3 _ _ (gc_X0_layFits_2 ⟨fun _ => ⟨rfl, rfl⟩, fun q => absurd (by decide) q⟩))), a1, fun g dd hg hdd => a2 g dd (by omega) hdd⟩
end Lf
