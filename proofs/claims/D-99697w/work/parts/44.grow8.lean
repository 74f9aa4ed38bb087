/-! the twin's public members: how much the first one grows -/
set_option maxRecDepth 100000
def grV (b : Nat → Int32) (g : Nat) : Nat → Nat → Int32 := acc8 (fun _ w => upd (upd (upd w 0 (s8_lesser 99 (w 0 + nI g))) 30 (s8_lesser 99 (w 30 + 1))) 37 (w 37 + 1)) b
def wasE (e : E8) (b : Nat → Int32) (g dd : Nat) : Bool := fitE e (grV b g dd) 0 0
/-- the sight j counts at the time k -/
def cntS (σ : S8) (k : Int32) (j : Nat) : Bool := decide (¬ k < σ.2.1 70 j) && (decide (σ.2.1 71 j < 0) || decide (k < σ.2.1 71 j))
/-- the growth g is as seen, so far -/
def okG (σ : S8) (wf : Nat → Nat → Bool) (k : Int32) (g : Nat) : Nat → Bool := acc8 (fun j ok => ok && (if cntS σ k j then decide (bi (wf g (σ.2.1 69 j).toNatClampNeg) = σ.2.1 72 j) else true)) true
theorem okG_s (σ : S8) (wf : Nat → Nat → Bool) (k : Int32) (g j : Nat) : okG σ wf k g (j + 1) = (okG σ wf k g j && (if cntS σ k j then decide (bi (wf g (σ.2.1 69 j).toNatClampNeg) = σ.2.1 72 j) else true)) := rfl
theorem okG_f {σ : S8} {wf : Nat → Nat → Bool} {k : Int32} {g j : Nat} (h : okG σ wf k g j = false) : ∀ n, okG σ wf k g (j + n) = false := by
  intro n
  induction n with
  | zero => exact h
  | succ n ih =>
    rw [show j + (n + 1) = (j + n) + 1 by omega, okG_s, ih]
    rfl
/-- what was seen is well told -/
def okSt (σ : S8) (ns : Nat) : Prop := σ.1 73 = nI ns ∧ ns ≤ 30 ∧ ∀ j, j < ns → ∃ dj, dj ≤ 20 ∧ σ.2.1 69 j = nI dj
theorem fitsGrowthT8 (d : Nat) (σ : S8) (k : Int32) {g ns : Nat} (wf : Nat → Nat → Bool) (hg : g ≤ 30) (hS : okSt σ ns) (hw : ∀ dd, dd ≤ 20 → σ.2.1 75 (21 * g + dd) = bi (wf g dd)) : Tw8 mX8_fitsGrowth (d + 1) [.int (nI g), .int k] σ (some (.int (bi (okG σ wf k g ns)))) σ := by
  obtain ⟨hn, h30, hd⟩ := hS
  have n21 : ∀ a b : Nat, ((21 : Int32) * nI a) + nI b = nI (21 * a + b) := fun a b => by
    have : (21 : Int32) = nI 21 := rfl
    rw [this, pk_mul, nI_add]
  rcases iter8e (A := Unit) (fun j _ τ r σ1 => Rn8 mX8_fitsGrowth (d + 1) 5 [.int (nI g), .int k, .int 1, .int (nI j)] (fun _ => []) τ r σ1) (fun j _ τ => τ = σ ∧ okG σ wf k g j = true) (fun r σ1 => r = some (.int (bi (okG σ wf k g ns))) ∧ σ1 = σ) ns (by
    rintro j ⟨⟩ τ hj ⟨rfl, q2⟩
    have hex : ¬ τ.1 73 ≤ nI j := by rw [hn]; exact nI_ge hj (by omega)
    have cj : (nI j).toNatClampNeg = j := cl (by omega)
    have b30 : vp_in (nI j) 30 := vin (by omega) (by decide)
    obtain ⟨dj, hdj, ed⟩ := hd j hj
    cases hc : cntS τ k j
    · -- it doesn't count
      have e1 : okG τ wf k g (j + 1) = true := by rw [okG_s, q2, hc]; rfl
      refine Or.inl ⟨(), τ, ⟨rfl, e1⟩, fun r σ1 h => ?_⟩
      unfold cntS at hc
      refine g8_fitsGrowth_5 ⟨fun q => absurd q hex, fun _ => ⟨fun q => absurd q (by decide), fun _ => ⟨b30, fun q => by rw [nI_1]; exact h, fun q => ⟨fun y => ?_, fun y => ⟨fun z => ?_, fun z => by rw [nI_1]; exact h⟩⟩⟩⟩⟩
      · rw [cj] at q y
        rw [decide_eq_true q, decide_eq_true y] at hc
        exact absurd hc (by simp)
      · rw [cj] at q z
        rw [decide_eq_true q, decide_eq_true z] at hc
        exact absurd hc (by simp)
    · have go : ∀ {r σ1}, Rn8 mX8_fitsGrowth (d + 1) 53 [.int (nI g), .int k, .int 1, .int (nI j)] (fun _ => []) τ r σ1 → Rn8 mX8_fitsGrowth (d + 1) 5 [.int (nI g), .int k, .int 1, .int (nI j)] (fun _ => []) τ r σ1 := by
        intro r σ1 h
        unfold cntS at hc
        simp only [Bool.and_eq_true, Bool.or_eq_true, decide_eq_true_eq] at hc
        refine g8_fitsGrowth_5 ⟨fun q => absurd q hex, fun _ => ⟨fun q => absurd q (by decide), fun _ => ⟨b30, fun q => absurd (by rw [cj] at q; exact q) hc.1, fun q => ⟨fun y => h, fun y => ⟨fun z => h, fun z => ?_⟩⟩⟩⟩⟩
        rw [cj] at y z
        exact absurd hc.2 (fun u => u.elim y z)
      have ew : ∀ {r σ1}, Rn8 mX8_fitsGrowth (d + 1) 5 [.int (nI g), .int k, .int (if bi (wf g dj) = τ.2.1 72 j then 1 else 0), .int (nI (j + 1))] (fun _ => []) τ r σ1 → Rn8 mX8_fitsGrowth (d + 1) 53 [.int (nI g), .int k, .int 1, .int (nI j)] (fun _ => []) τ r σ1 := by
        intro r σ1 h
        refine g8_fitsGrowth_53 ⟨b30, by rw [cj, ed, n21]; exact vin (by omega) (by decide), ?_⟩
        rw [cj, ed, n21, cl (by omega), hw dj hdj, nI_1]
        exact h
      by_cases hb : bi (wf g dj) = τ.2.1 72 j
      · have e1 : okG τ wf k g (j + 1) = true := by rw [okG_s, q2, hc, ed, cl (by omega), if_pos rfl, decide_eq_true hb]; rfl
        refine Or.inl ⟨(), τ, ⟨rfl, e1⟩, fun r σ1 h => go (ew ?_)⟩
        rw [if_pos hb]
        exact h
      · have e1 : okG τ wf k g (j + 1) = false := by rw [okG_s, q2, hc, ed, cl (by omega), if_pos rfl, decide_eq_false hb]; rfl
        have e2 : okG τ wf k g ns = false := by
          have := okG_f e1 (ns - (j + 1))
          rw [show j + 1 + (ns - (j + 1)) = ns by omega] at this
          exact this
        refine Or.inr ⟨some (.int 0), τ, go (ew ?_), by rw [e2]; rfl, rfl⟩
        rw [if_neg hb]
        exact g8_fitsGrowth_5 ⟨fun _ => ⟨isB_0, rfl, rfl⟩, fun _ => ⟨fun _ => ⟨isB_0, rfl, rfl⟩, fun q => absurd rfl q⟩⟩) 0 () σ (Nat.zero_le _) ⟨rfl, rfl⟩ with ⟨_, τ, ⟨rfl, a2⟩, a3⟩ | ⟨r, σ1, s1, rfl, rfl⟩
  · refine Tw8.ofR [.int (nI g), .int k, U_, U_] (by decide) (fun _ => rfl) (fun _ _ => Nat.le_of_ble_eq_true rfl) (g8_fitsGrowth_0 (a3 _ _ (g8_fitsGrowth_5 ⟨fun _ => ⟨isB_1, by rw [a2]; rfl, rfl⟩, fun q => absurd (by rw [hn]; exact nI_le (Nat.le_refl _) (by omega)) q⟩)))
  · exact Tw8.ofR [.int (nI g), .int k, U_, U_] (by decide) (fun _ => rfl) (fun _ _ => Nat.le_of_ble_eq_true rfl) (g8_fitsGrowth_0 s1)
theorem acc8_cg {α : Type} {f g : Nat → α → α} (h : ∀ j a, f j a = g j a) (a : α) : ∀ n, acc8 f a n = acc8 g a n := by
  intro n
  induction n with
  | zero => rfl
  | succ n ih =>
    show f n (acc8 f a n) = g n (acc8 g a n)
    rw [ih, h]
theorem okG_kp {A : List Nat} {σ σ1 : S8} {wf : Nat → Nat → Bool} {k : Int32} {g : Nat} (h : kp A σ σ1) (h1 : 69 ∉ A) (h2 : 70 ∉ A) (h3 : 71 ∉ A) (h4 : 72 ∉ A) (n : Nat) : okG σ1 wf k g n = okG σ wf k g n := by
  unfold okG
  refine acc8_cg (fun j a => ?_) true n
  have e1 : σ1.2.1 69 j = σ.2.1 69 j := congrFun (h.2.2 69 h1) j
  have e2 : σ1.2.1 70 j = σ.2.1 70 j := congrFun (h.2.2 70 h2) j
  have e3 : σ1.2.1 71 j = σ.2.1 71 j := congrFun (h.2.2 71 h3) j
  have e4 : σ1.2.1 72 j = σ.2.1 72 j := congrFun (h.2.2 72 h4) j
  have hc : cntS σ1 k j = cntS σ k j := by
    unfold cntS
    rw [e2, e3]
  rw [hc, e1, e4]
theorem okSt_kp {A : List Nat} {σ σ1 : S8} {ns : Nat} (h : kp A σ σ1) (h1 : 69 ∉ A) (hS : okSt σ ns) : okSt σ1 ns := ⟨by rw [h.1]; exact hS.1, hS.2.1, fun j hj => by rw [h.2.2 69 h1]; exact hS.2.2 j hj⟩
/-- as all was told, whether it did fit -/
abbrev wasS (σ : S8) (nm nc : Nat) : Nat → Nat → Bool := wasE (env8 σ) (begS σ nm nc)
theorem layGrowthsT8 (d : Nat) (σ : S8) (k : Int32) {nm nc ns : Nat} (hR : R8 σ nm nc) (hS : okSt σ ns) (h0 : 0 < nm) (hc0 : 0 < nc) :
    ∃ σ1, Tw8 mX8_layGrowths (d + 5) [.int k] σ (some (.int (cnt8 (fun g => okG σ (wasS σ nm nc) k g ns) 31))) σ1 ∧ kp [16, 26, 60, 75, 76] σ σ1 ∧ (∀ g dd, g < 31 → dd < 21 → σ1.2.1 75 (21 * g + dd) = bi (wasS σ nm nc g dd)) ∧ ∀ g, g < 31 → σ1.2.1 76 g = bi (okG σ (wasS σ nm nc) k g ns) := by
  have h6 := hR.2.1
  have hc6 := hR.2.2.2.1
  have n21 : ∀ a b : Nat, ((21 : Int32) * nI a) + nI b = nI (21 * a + b) := fun a b => by
    have : (21 : Int32) = nI 21 := rfl
    rw [this, pk_mul, nI_add]
  have hm0 : ¬ σ.1 48 ≤ 0 := by rw [hR.1]; exact nI_nle h0 (by omega)
  have hcn0 : ¬ σ.1 49 ≤ 0 := by rw [hR.2.2.1]; exact nI_nle hc0 (by omega)
  obtain ⟨a, τ, ⟨a0, a1, a2, a4⟩, a3⟩ := iter8 (A := Int32) (fun g a τ r σ1 => Rn8 mX8_layGrowths (d + 5) 4 [.int k, .int a, .int (nI g), U_] (fun _ => []) τ r σ1) (fun g a τ => a = cnt8 (fun g => okG σ (wasS σ nm nc) k g ns) g ∧ kp [16, 26, 60, 75, 76] σ τ ∧ (∀ g' dd, g' < g → dd < 21 → τ.2.1 75 (21 * g' + dd) = bi (wasS σ nm nc g' dd)) ∧ ∀ g', g' < g → τ.2.1 76 g' = bi (okG σ (wasS σ nm nc) k g' ns)) 31 (by
    rintro g a τ hg ⟨q0, q1, q2, q3⟩
    have tb := beginT8 (d + 3) τ (nm := nm) (nc := nc) (by rw [q1.1]; exact hR.1) h6 (by rw [q1.1]; exact hR.2.2.1) hc6
    have eb : begS τ nm nc = begS σ nm nc := by
      unfold begS
      rw [q1.2.2 35 (by decide), q1.2.2 37 (by decide), q1.2.2 38 (by decide), q1.2.2 39 (by decide), q1.2.2 40 (by decide)]
    rw [eb] at tb
    have kb : kp [16, 26, 60, 75, 76] σ (stA τ 60 (begS σ nm nc)) := q1.tr (stA_kp (by decide))
    obtain ⟨_, τ1, ⟨b1, b2, b4, b5, b6⟩, b3⟩ := iter8 (A := Unit) (fun j _ τ r σ1 => Rn8 mX8_layGrowths (d + 5) 31 [.int k, .int a, .int (nI g), .int (nI j)] (fun _ => []) τ r σ1) (fun j _ τ1 => kp [16, 26, 60, 75, 76] σ τ1 ∧ τ1.2.1 60 = grV (begS σ nm nc) g j ∧ (∀ g' dd, g' < g → dd < 21 → τ1.2.1 75 (21 * g' + dd) = bi (wasS σ nm nc g' dd)) ∧ (∀ dd, dd < j → τ1.2.1 75 (21 * g + dd) = bi (wasS σ nm nc g dd)) ∧ ∀ g', g' < g → τ1.2.1 76 g' = bi (okG σ (wasS σ nm nc) k g' ns)) 21 (by
      rintro j ⟨⟩ τ1 hj ⟨z1, z2, z3, z4, z5⟩
      obtain ⟨τ2, t1, t2⟩ := fitsT8 d τ1 (hR.kp z1 (by decide) (by decide)) (m := 0) (c := 0) (by decide) (by decide)
      rw [env8_kp z1 (by decide) (by decide) (by decide), z2] at t1
      have e75 : τ2.2.1 75 = τ1.2.1 75 := t2.2.2 75 (by decide)
      have e76 : τ2.2.1 76 = τ1.2.1 76 := t2.2.2 76 (by decide)
      have e60 : τ2.2.1 60 = grV (begS σ nm nc) g j := by rw [t2.2.2 60 (by decide)]; exact z2
      have hex : ¬ 20 < nI j := by rw [i32_nlt]; exact nI_le (b := 20) (by omega) (by decide)
      refine ⟨(), (τ2.1, upA (upA τ2.2.1 75 (upd (τ2.2.1 75) (21 * g + j) (bi (wasS σ nm nc g j)))) 60 (grV (begS σ nm nc) g (j + 1)), τ2.2.2.1, τ2.2.2.2), ⟨kp1 (kp1 (z1.tr (t2.mo (by decide))) (j := 75) (by decide)) (j := 60) (by decide), upA_s (f := upA τ2.2.1 75 (upd (τ2.2.1 75) (21 * g + j) (bi (wasS σ nm nc g j)))) (j := 60), fun g' dd hg' hd => ?_, fun dd hd => ?_, fun g' hg' => ?_⟩, fun r σ1 h => ?_⟩
      · show upA (upA τ2.2.1 75 (upd (τ2.2.1 75) (21 * g + j) (bi (wasS σ nm nc g j)))) 60 (grV (begS σ nm nc) g (j + 1)) 75 (21 * g' + dd) = _
        rw [upA_n (by decide), upA_s, upd_n (by omega), e75]
        exact z3 g' dd hg' hd
      · show upA (upA τ2.2.1 75 (upd (τ2.2.1 75) (21 * g + j) (bi (wasS σ nm nc g j)))) 60 (grV (begS σ nm nc) g (j + 1)) 75 (21 * g + dd) = _
        rw [upA_n (by decide), upA_s]
        by_cases e : dd = j
        · subst e; rw [upd_s]
        · rw [upd_n (by omega), e75]; exact z4 dd (by omega)
      · show upA (upA τ2.2.1 75 (upd (τ2.2.1 75) (21 * g + j) (bi (wasS σ nm nc g j)))) 60 (grV (begS σ nm nc) g (j + 1)) 76 g' = _
        rw [upA_n (by decide), upA_n (by decide), e76]
        exact z5 g' hg'
      · refine g8_layGrowths_31 ⟨fun q => absurd q hex, fun _ => ⟨_, _, t1, ⟨by rw [n21]; exact vin (by omega) (by decide), isB_bi _⟩, ?_⟩⟩
        rw [n21, cl (by omega), nI_1, e60]
        exact h) 0 () (stA τ 60 (begS σ nm nc)) (Nat.zero_le _) ⟨kb, stA_s, fun g' dd hg' hd => by rw [stA_n (by decide)]; exact q2 g' dd hg' hd, fun dd hd => absurd hd (by omega), fun g' hg' => by rw [stA_n (by decide)]; exact q3 g' hg'⟩
    have tf := fitsGrowthT8 (d + 3) τ1 k (g := g) (ns := ns) (wasS σ nm nc) (by omega) (okSt_kp b1 (by decide) hS) (fun dd hd => b5 dd (by omega))
    rw [okG_kp b1 (by decide) (by decide) (by decide) (by decide)] at tf
    have b31 : vp_in (nI g) 31 := vin (by omega) (by decide)
    refine ⟨cnt8 (fun g => okG σ (wasS σ nm nc) k g ns) (g + 1), _, ⟨rfl, kp1 (j := 76) (g := upd (τ1.2.1 76) g (bi (okG σ (wasS σ nm nc) k g ns))) b1 (by decide), fun g' dd hg' hd => ?_, fun g' hg' => ?_⟩, fun r σ1 h => ?_⟩
    · show upA τ1.2.1 76 (upd (τ1.2.1 76) g (bi (okG σ (wasS σ nm nc) k g ns))) 75 (21 * g' + dd) = _
      rw [upA_n (by decide)]
      by_cases e : g' = g
      · subst e; exact b5 dd hd
      · exact b4 g' dd (by omega) hd
    · show upA τ1.2.1 76 (upd (τ1.2.1 76) g (bi (okG σ (wasS σ nm nc) k g ns))) 76 g' = _
      rw [upA_s]
      by_cases e : g' = g
      · subst e; rw [upd_s]
      · rw [upd_n e]; exact b6 g' (by omega)
    · refine g8_layGrowths_4 ⟨fun q => absurd q (by rw [i32_nlt]; exact nI_le (b := 30) (by omega) (by decide)), fun _ => ⟨fun q => absurd (by rw [q1.1] at q; exact q) hm0, fun _ => ⟨fun q => absurd (by rw [q1.1] at q; exact q) hcn0, fun _ => ⟨_, tb, b3 _ _ (g8_layGrowths_31 ⟨fun _ => ⟨_, _, tf, ⟨b31, isB_bi _⟩, b31, ?_⟩, fun q => absurd (by decide) q⟩)⟩⟩⟩⟩
      rw [cl (by omega), upd_s, tr_bi, nI_1, q0]
      exact h) 0 0 σ (Nat.zero_le _) ⟨rfl, kp.rf, fun g' dd hg' => absurd hg' (by omega), fun g' hg' => absurd hg' (by omega)⟩
  subst a0
  exact ⟨τ, Tw8.ofR [.int k, U_, U_, U_] (by decide) (fun _ => rfl) (fun _ _ => Nat.le_of_ble_eq_true rfl) (g8_layGrowths_0 (a3 _ _ (g8_layGrowths_4 ⟨fun _ => ⟨rfl, rfl⟩, fun q => absurd (by decide) q⟩))), a1, a2, a4⟩
theorem layGrowths0 (d : Nat) (σ : S8) (k : Int32) {nm nc : Nat} (hR : R8 σ nm nc) (h0 : nm = 0 ∨ nc = 0) : Tw8 mX8_layGrowths (d + 5) [.int k] σ (some (.int 0)) σ := by
  refine Tw8.ofR [.int k, U_, U_, U_] (by decide) (fun _ => rfl) (fun _ _ => Nat.le_of_ble_eq_true rfl) (g8_layGrowths_0 (g8_layGrowths_4 ⟨fun _ => ⟨rfl, rfl⟩, fun _ => ⟨fun _ => ⟨rfl, rfl⟩, fun q => ⟨fun _ => ⟨rfl, rfl⟩, fun q2 => ?_⟩⟩⟩))
  rcases h0 with h | h
  · subst h
    exact absurd (by rw [hR.1]; decide) q
  · subst h
    exact absurd (by rw [hR.2.2.1]; decide) q2
/-- how many growths may be -/
def growE (σ : S8) (nm nc ns : Nat) (k : Int32) : Int32 := if nm = 0 ∨ nc = 0 then 0 else cnt8 (fun g => okG σ (wasS σ nm nc) k g ns) 31
theorem growthsM (d : Nat) (σ : S8) (k : Int32) {nm nc ns : Nat} (hR : R8 σ nm nc) (hS : okSt σ ns) : M8 mX8_growths (d + 6) [.int k] σ (growE σ nm nc ns k) σ := by
  unfold growE
  by_cases h : nm = 0 ∨ nc = 0
  · rw [if_pos h]
    exact ⟨σ, Tw8.ofR [.int k] (by decide) (fun _ => rfl) (fun _ _ => Nat.le_of_ble_eq_true rfl) (g8_growths_0 ⟨_, _, layGrowths0 d σ k hR h, rfl, rfl⟩), PK.rf⟩
  · rw [if_neg h]
    obtain ⟨σ1, q1, q2, -, -⟩ := layGrowthsT8 d σ k hR hS (by omega) (by omega)
    exact ⟨σ1, Tw8.ofR [.int k] (by decide) (fun _ => rfl) (fun _ _ => Nat.le_of_ble_eq_true rfl) (g8_growths_0 ⟨_, _, q1, rfl, rfl⟩), PK.of q2 (by decide)⟩
def sureE (f : Nat → Bool) (what : Int32) : Nat → Int32 := acc8 (fun g a => if f g && (decide (a < 0) || decide (what = 1)) then nI g else a) (-1)
theorem sureE_s (f : Nat → Bool) (what : Int32) (g : Nat) : sureE f what (g + 1) = if f g && (decide (sureE f what g < 0) || decide (what = 1)) then nI g else sureE f what g := rfl
theorem sureM (d : Nat) (σ : S8) (what k : Int32) {nm nc ns : Nat} (hR : R8 σ nm nc) (hS : okSt σ ns) : M8 mX8_sure (d + 6) [.int what, .int k] σ (if s8_isIn what 0 1 = 0 then -1 else if growE σ nm nc ns k = 0 then -1 else sureE (fun g => okG σ (wasS σ nm nc) k g ns) what 31) σ := by
  have go : ∀ {r σ1}, _ → Tw8 mX8_sure (d + 6) [.int what, .int k] σ r σ1 := fun h => Tw8.ofR [.int what, .int k, U_, U_] (by decide) (fun _ => rfl) (fun _ _ => Nat.le_of_ble_eq_true rfl) (g8_sure_0 h)
  by_cases h1 : s8_isIn what 0 1 = 0
  · rw [if_pos h1]
    exact ⟨σ, go ⟨fun _ => ⟨rfl, rfl⟩, fun q => absurd h1 q⟩, PK.rf⟩
  rw [if_neg h1]
  by_cases h : nm = 0 ∨ nc = 0
  · have e : growE σ nm nc ns k = 0 := by unfold growE; rw [if_pos h]
    rw [if_pos e]
    exact ⟨σ, go ⟨fun q => absurd q h1, fun _ => ⟨_, _, layGrowths0 d σ k hR h, fun q => absurd rfl q, fun _ => ⟨rfl, rfl⟩⟩⟩, PK.rf⟩
  obtain ⟨σ1, q1, q2, q3, q4⟩ := layGrowthsT8 d σ k hR hS (by omega) (by omega)
  have e : growE σ nm nc ns k = cnt8 (fun g => okG σ (wasS σ nm nc) k g ns) 31 := by unfold growE; rw [if_neg h]
  rw [e]
  by_cases h2 : cnt8 (fun g => okG σ (wasS σ nm nc) k g ns) 31 = 0
  · rw [if_pos h2]
    exact ⟨σ1, go ⟨fun q => absurd q h1, fun _ => ⟨_, _, q1, fun q => absurd h2 q, fun _ => ⟨rfl, rfl⟩⟩⟩, PK.of q2 (by decide)⟩
  rw [if_neg h2]
  obtain ⟨a, τ, ⟨a1, a2⟩, a3⟩ := iter8 (A := Int32) (fun g a τ r σ1 => Rn8 mX8_sure (d + 6) 24 [.int what, .int k, .int a, .int (nI g)] (fun _ => []) τ r σ1) (fun g a τ => a = sureE (fun g => okG σ (wasS σ nm nc) k g ns) what g ∧ τ = σ1) 31 (by
    rintro g a τ hg ⟨p0, rfl⟩
    refine ⟨_, _, ⟨rfl, rfl⟩, fun r σ1 h => ?_⟩
    rw [sureE_s, ← p0] at h
    have cg : (nI g).toNatClampNeg = g := cl (by omega)
    refine g8_sure_24 ⟨fun q => absurd q (by rw [i32_nlt]; exact nI_le (b := 30) (by omega) (by decide)), fun _ => ⟨vin (by omega) (by decide), fun q => ?_, fun q => ⟨fun y => ?_, fun y => ⟨fun z => ?_, fun z => ?_⟩⟩⟩⟩
    · rw [cg, q4 g hg, bi_0] at q
      simp only [q, Bool.false_and] at h
      rw [nI_1]; exact h
    · rw [cg, q4 g hg, bi_0, Bool.not_eq_false] at q
      simp only [q, decide_eq_true y, Bool.true_or, Bool.true_and] at h
      rw [nI_1]; exact h
    · simp only [decide_eq_false y, decide_eq_false z, Bool.false_or, Bool.and_false] at h
      rw [nI_1]; exact h
    · rw [cg, q4 g hg, bi_0, Bool.not_eq_false] at q
      simp only [q, decide_eq_true z, Bool.or_true, Bool.true_and] at h
      rw [nI_1]; exact h) 0 (-1) σ1 (Nat.zero_le _) ⟨rfl, rfl⟩
  subst a1; subst a2
  exact ⟨_, go ⟨fun q => absurd q h1, fun _ => ⟨_, _, q1, fun _ => a3 _ _ (g8_sure_24 ⟨fun _ => ⟨rfl, rfl⟩, fun q => absurd (by decide) q⟩), fun q => absurd q h2⟩⟩, PK.of q2 (by decide)⟩
