/-! the component: buttons -/
set_option maxRecDepth 100000
def orE (s t : Option Nat) : Option Nat := match s with
  | some c => some c
  | none => t
/-- the first of N -/
def fsA (g : Nat → Option Nat) (s : Option Nat) (N : Nat) : Option Nat := acc8 (fun i s => orE s (g i)) s N
theorem fsA_or (g : Nat → Option Nat) (s : Option Nat) : ∀ N, fsA g s N = orE s (fsA g none N) := by
  intro N
  induction N with
  | zero => cases s <;> rfl
  | succ N ih =>
    show orE (fsA g s N) (g N) = orE s (orE (fsA g none N) (g N))
    rw [ih]
    cases s <;> rfl
theorem fsA_s (g : Nat → Option Nat) (N : Nat) : fsA g none (N + 1) = orE (fsA g none N) (g N) := rfl
theorem fsA_none {g : Nat → Option Nat} : ∀ N, (∀ i, i < N → g i = none) → fsA g none N = none := by
  intro N
  induction N with
  | zero => intro _; rfl
  | succ N ih => intro h; rw [fsA_s, ih (fun i hi => h i (by omega)), h N (by omega)]; rfl
theorem fsA_stay {g : Nat → Option Nat} {c N : Nat} (h : fsA g none N = some c) : ∀ j, fsA g none (N + j) = some c := by
  intro j
  induction j with
  | zero => exact h
  | succ j ih => rw [← Nat.add_assoc, fsA_s, ih]; rfl
theorem fsA_some {g : Nat → Option Nat} {N i : Nat} (hi : i < N) (h : g i ≠ none) : fsA g none N ≠ none := by
  have h1 : fsA g none (i + 1) ≠ none := by
    rw [fsA_s]
    cases fsA g none i with
    | none => exact h
    | some c => exact fun z => by cases z
  cases e : fsA g none (i + 1) with
  | none => exact absurd e h1
  | some c =>
    have := fsA_stay e (N - (i + 1))
    rw [show i + 1 + (N - (i + 1)) = N by omega] at this
    rw [this]
    exact fun z => by cases z
/-- the first sound code behind a prefix -/
def seR (nr : Nat → Nat → Bool) (nm n : Nat) : Nat → Nat → Option Nat
  | 0, q => if coE (pD n q nm) nr nm then some q else none
  | r + 1, q => fsA (fun c => seR nr nm n r (q * n + c)) none n
theorem seR_s (nr : Nat → Nat → Bool) (nm n r q : Nat) : seR nr nm n (r + 1) q = fsA (fun c => seR nr nm n r (q * n + c)) none n := rfl
theorem seR_all {nr : Nat → Nat → Bool} {nm n : Nat} : ∀ r q, seR nr nm n r q = fsA (fun i => if coE (pD n (q * n ^ r + i) nm) nr nm then some (q * n ^ r + i) else none) none (n ^ r) := by
  intro r
  induction r with
  | zero =>
    intro q
    show (if coE (pD n q nm) nr nm then some q else none) = orE none (if coE (pD n (q * 1 + 0) nm) nr nm then some (q * 1 + 0) else none)
    rw [Nat.mul_one, Nat.add_zero]
    rfl
  | succ r ih =>
    intro q
    rw [seR_s]
    unfold fsA
    rw [Nat.pow_succ, Nat.mul_comm (n ^ r) n, acc8_mul]
    refine acc8_cn _ (fun c s hc => ?_)
    dsimp only
    rw [ih]
    have e := fsA_or (fun i => if coE (pD n (q * (n * n ^ r) + (c * n ^ r + i)) nm) nr nm then some (q * (n * n ^ r) + (c * n ^ r + i)) else none) s (n ^ r)
    have e2 : fsA (fun i => if coE (pD n ((q * n + c) * n ^ r + i) nm) nr nm then some ((q * n + c) * n ^ r + i) else none) none (n ^ r) = fsA (fun i => if coE (pD n (q * (n * n ^ r) + (c * n ^ r + i)) nm) nr nm then some (q * (n * n ^ r) + (c * n ^ r + i)) else none) none (n ^ r) := by
      refine acc8_cn _ (fun i t hi => ?_)
      dsimp only
      rw [show (q * n + c) * n ^ r + i = q * (n * n ^ r) + (c * n ^ r + i) by rw [Nat.add_mul, Nat.mul_assoc, Nat.add_assoc]]
    rw [e2, ← e]
    rfl
theorem seR_0 {nr : Nat → Nat → Bool} {nm n : Nat} : seR nr nm n nm 0 = btI nr nm n (n ^ nm) := by
  rw [seR_all]
  refine acc8_cn _ (fun i s hi => ?_)
  dsimp only
  rw [Nat.zero_mul, Nat.zero_add]
  cases s <;> rfl
theorem coI_cg {D D' : Nat → Nat} {nr : Nat → Nat → Bool} {m : Nat} {b : Bool} : ∀ k, k ≤ m → (∀ i, i ≤ m → D i = D' i) → coI D nr m b k = coI D' nr m b k := by
  intro k hk h
  exact acc8_cn k (fun o ok ho => by rw [h m (Nat.le_refl _), h o (by omega)])
theorem coE_cg {D D' : Nat → Nat} {nr : Nat → Nat → Bool} : ∀ m, (∀ i, i < m → D i = D' i) → coE D nr m = coE D' nr m := by
  intro m
  induction m with
  | zero => intro _; rfl
  | succ m ih =>
    intro h
    rw [coE_s, coE_s, ih (fun i hi => h i (by omega)), coI_cg m (Nat.le_refl _) (fun i hi => h i (by omega))]
theorem coI_f {D : Nat → Nat} {nr : Nat → Nat → Bool} {m : Nat} : ∀ k, coI D nr m false k = false := by
  intro k
  induction k with
  | zero => rfl
  | succ k ih => rw [coI_s, ih]; rfl
theorem coE_x {nr : Nat → Nat → Bool} {n q c m : Nat} (hc : c < n) : coE (pD n (q * n + c) (m + 1)) nr (m + 1) = coI (pD n (q * n + c) (m + 1)) nr m (coE (pD n q m) nr m) m := by
  rw [coE_s, coE_cg m (fun i hi => pD_i hc hi)]
theorem seR_no {nr : Nat → Nat → Bool} {nm n : Nat} : ∀ r m q, m + r = nm → coE (pD n q m) nr m = false → seR nr nm n r q = none := by
  intro r
  induction r with
  | zero =>
    intro m q hm h
    have : m = nm := by omega
    subst this
    show (if coE (pD n q m) nr m then some q else none) = none
    rw [h]
    rfl
  | succ r ih =>
    intro m q hm h
    rw [seR_s]
    exact fsA_none _ (fun c hc => ih (m + 1) _ (by omega) (by rw [coE_x hc, h]; exact coI_f _))
theorem coI_t {D : Nat → Nat} {nr : Nat → Nat → Bool} {m : Nat} : ∀ k, (∀ o, o < k → D m ≠ D o) → coI D nr m true k = true := by
  intro k
  induction k with
  | zero => intro _; rfl
  | succ k ih =>
    intro h
    rw [coI_s, ih (fun o ho => h o (by omega)), decide_eq_false (h k (by omega))]
    rfl
/-- so many colours as men do -/
theorem seR_id {nr : Nat → Nat → Bool} {nm : Nat} : ∀ r m q, m + r = nm → (∀ i, i < m → pD nm q m i = i) → coE (pD nm q m) nr m = true → seR nr nm nm r q ≠ none := by
  intro r
  induction r with
  | zero =>
    intro m q hm h1 h2
    have : m = nm := by omega
    subst this
    show (if coE (pD m q m) nr m then some q else none) ≠ none
    rw [h2]
    exact fun z => by cases z
  | succ r ih =>
    intro m q hm h1 h2
    rw [seR_s]
    refine fsA_some (i := m) (by omega) (ih (m + 1) _ (by omega) (fun i hi => ?_) ?_)
    · by_cases e : i = m
      · subst e; exact pD_m (by omega)
      · rw [pD_i (by omega) (by omega)]; exact h1 i (by omega)
    · rw [coE_x (by omega), h2]
      refine coI_t _ (fun o ho => ?_)
      rw [pD_m (by omega), pD_i (by omega) ho, h1 o ho]
      omega
section C10
variable {ρ : Rho} {E : Hp → Prop} {A : Nat → Nat} {σ : Sg}
def nrC (ρ : Rho) (m o : Nat) : Bool := decide (¬ rgI ρ 11 < s8_plain (mnI ρ m 1 - mnI ρ o 1))
theorem likeC (d : Nat) {m o : Nat} (h6 : ρ.1 0 ≤ 6) (hm : m < ρ.1 0) (ho : o < ρ.1 0) : Tv ρ E A mX0_areLike (d + 4) 0 0 [.ref (A 0), .int (nI m), .int (nI o)] σ (some (.int (bi (nrC ρ m o)))) σ := by
  refine Tv.of [.ref (A 0), .int (nI m), .int (nI o)] (by decide) rfl (fun _ => Nat.le_of_ble_eq_true rfl) rfl (gc_X0_areLike_0 ⟨vin hm (by omega), vin ho (by omega), ?_, rfl⟩)
  rw [cl (by omega), cl (by omega), abs_plain, bi_ifn]
  rfl
/-- a search leaves what it had laid, and all beyond the men -/
def klr (m nm : Nat) (τ τ1 : Sg) : Prop := kc [19] τ τ1 ∧ (∀ i, i < m → τ1.1 19 i = τ.1 19 i) ∧ ∀ i, nm ≤ i → τ1.1 19 i = τ.1 19 i
theorem klr.rf {m nm : Nat} {τ : Sg} : klr m nm τ τ := ⟨kc.rf, fun _ _ => rfl, fun _ _ => rfl⟩
theorem klr.tr {m nm : Nat} {τ τ1 τ2 : Sg} (h : klr m nm τ τ1) (h2 : klr m nm τ1 τ2) : klr m nm τ τ2 := ⟨h.1.tr h2.1, fun i hi => (h2.2.1 i hi).trans (h.2.1 i hi), fun i hi => (h2.2.2 i hi).trans (h.2.2 i hi)⟩
theorem klr.mo {m m' nm : Nat} {τ τ1 : Sg} (h : klr m' nm τ τ1) (hm : m ≤ m') : klr m nm τ τ1 := ⟨h.1, fun i hi => h.2.1 i (by omega), h.2.2⟩
theorem klr_up {m nm : Nat} {τ : Sg} {x : Int32} (hm : m < nm) : klr m nm τ (upA τ.1 19 (upd (τ.1 19) m x), τ.2) := by
  refine ⟨kc.rf.up (o := 19) (by decide) _, fun i hi => ?_, fun i hi => ?_⟩
  · show upA τ.1 19 (upd (τ.1 19) m x) 19 i = _
    rw [upA_s, upd_n (by omega)]
  · show upA τ.1 19 (upd (τ.1 19) m x) 19 i = _
    rw [upA_s, upd_n (by omega)]
theorem bi_and1 (b : Bool) : bi b &&& 1 = bi b := by cases b <;> decide
theorem bi_andn (b x : Bool) : bi b &&& (if bi x = 0 then (1 : Int32) else 0) = bi (b && !x) := by cases b <;> cases x <;> decide
theorem goColC (h6 : ρ.1 0 ≤ 6) {n : Nat} (hn : n ≤ 6) : ∀ (r d m q : Nat) (τ : Sg), m + r = ρ.1 0 → coE (pD n q m) (nrC ρ) m = true → (∀ i, i < m → τ.1 19 i = nI (pD n q m i) ∧ pD n q m i < n) →
    ∃ τ1, Tv ρ E A mX0_goColour (d + r + 5) 0 0 [.ref (A 0), .int (nI m), .int (nI n)] τ (some (.int (bi (seR (nrC ρ) (ρ.1 0) n r q).isSome))) τ1 ∧ klr m (ρ.1 0) τ τ1 ∧ ∀ c, seR (nrC ρ) (ρ.1 0) n r q = some c → ∀ i, i < ρ.1 0 → τ1.1 19 i = nI (pD n c (ρ.1 0) i) := by
  intro r
  induction r with
  | zero =>
    intro d m q τ hm hok hl
    have em : m = ρ.1 0 := by omega
    have es : seR (nrC ρ) (ρ.1 0) n 0 q = some q := by
      show (if coE (pD n q (ρ.1 0)) (nrC ρ) (ρ.1 0) then some q else none) = some q
      rw [← em, hok]
      rfl
    rw [es]
    refine ⟨τ, Tv.of [.ref (A 0), .int (nI m), .int (nI n), U_, U_, U_] (by decide) rfl (fun _ => Nat.le_of_ble_eq_true rfl) rfl (gc_X0_goColour_0 ⟨_, _, menC (d + 0 + 2), fun z => absurd (by rw [em]) z, fun _ => ⟨rfl, rfl⟩⟩), klr.rf, fun c hc i hi => ?_⟩
    cases hc
    rw [← em]
    exact (hl i (by omega)).1
  | succ r ih =>
    intro d m q τ hm hok hl
    rw [show d + (r + 1) + 5 = (d + r + 1) + 5 by omega, seR_s]
    have hne : ¬ nI m = nI (ρ.1 0) := nI_ne (by omega) (by omega) (by omega)
    have cm : (nI m).toNatClampNeg = m := cl (by omega)
    generalize hg : (fun c => seR (nrC ρ) (ρ.1 0) n r (q * n + c)) = g
    have hgk : ∀ c, g c = seR (nrC ρ) (ρ.1 0) n r (q * n + c) := fun c => by rw [← hg]
    have go : ∀ {r9 σ1}, σ1.2 = τ.2 → _ → Tv ρ E A mX0_goColour ((d + r + 1) + 5) 0 0 [.ref (A 0), .int (nI m), .int (nI n)] τ r9 σ1 := fun h2 h => Tv.of [.ref (A 0), .int (nI m), .int (nI n), U_, U_, U_] (by decide) rfl (fun _ => Nat.le_of_ble_eq_true rfl) h2 (gc_X0_goColour_0 ⟨_, _, menC (d + r + 1 + 2), fun _ => h, fun z => absurd z hne⟩)
    rcases iterCe (T := Unit) (fun k _ τ r9 σ1 => Rv ρ E A mX0_goColour ((d + r + 1) + 5) 0 0 12 [.ref (A 0), .int (nI m), .int (nI n), .int (nI k), U_, U_] [] τ r9 σ1) (fun k _ τ1 => klr m (ρ.1 0) τ τ1 ∧ fsA g none k = none) (fun r9 σ1 => ∃ c, fsA g none n = some c ∧ r9 = some (.int 1) ∧ klr m (ρ.1 0) τ σ1 ∧ ∀ i, i < ρ.1 0 → σ1.1 19 i = nI (pD n c (ρ.1 0) i)) n (by
      rintro k ⟨⟩ τ1 hk ⟨q1, q2⟩
      -- may he have it
      obtain ⟨b, τ2, ⟨c1, c2⟩, c3⟩ := iterC (T := Bool) (fun o b τ r9 σ1 => Rv ρ E A mX0_goColour ((d + r + 1) + 5) 0 0 23 [.ref (A 0), .int (nI m), .int (nI n), .int (nI k), .int (bi b), .int (nI o)] [] τ r9 σ1) (fun o b τ => b = coI (pD n (q * n + k) (m + 1)) (nrC ρ) m true o ∧ τ = τ1) m (by
        rintro o b τ2 ho ⟨z0, z1⟩
        subst z1
        refine ⟨_, τ2, ⟨rfl, rfl⟩, fun r9 σ1 h => ?_⟩
        rw [coI_s, ← z0, pD_m hk, pD_i hk ho] at h
        obtain ⟨l1, l2⟩ := hl o ho
        have lo : τ2.1 19 (nI o).toNatClampNeg = nI (pD n q m o) := by rw [cl (by omega), q1.2.1 o ho]; exact l1
        refine gc_X0_goColour_23 ⟨fun z => absurd z (nI_ge ho (by omega)), fun _ => ⟨vin (by omega) (by decide), fun z => ?_, fun z => ⟨_, _, likeC (d + r + 1) h6 (by omega) (by omega), ?_⟩⟩⟩
        · rw [lo] at z
          rw [decide_eq_false (p := k = pD n q m o) (fun e => z (by rw [e])), Bool.false_and, Bool.not_false, Bool.and_true] at h
          rw [bi_and1, nI_1]
          exact h
        · rw [lo] at z
          have e : k = pD n q m o := ((nI_eq (by omega) (by omega)).mp z).symm
          rw [decide_eq_true e, Bool.true_and] at h
          rw [bi_andn, nI_1]
          exact h) 0 true τ1 (Nat.zero_le _) ⟨rfl, rfl⟩
      subst c2
      have ex : coE (pD n (q * n + k) (m + 1)) (nrC ρ) (m + 1) = b := by rw [coE_x hk, hok, c1]
      have k3 := klr_up (m := m) (nm := ρ.1 0) (τ := τ2) (x := nI k) (by omega)
      have hexk : ¬ nI n ≤ nI k := nI_ge hk (by omega)
      cases hb : b with
      | false =>
        rw [hb] at ex c3
        have gk : g k = none := by rw [hgk]; exact seR_no r (m + 1) _ (by omega) ex
        refine Or.inl ⟨(), _, ⟨q1.tr k3, by rw [fsA_s, q2, gk]; rfl⟩, fun r9 σ1 h => ?_⟩
        refine gc_X0_goColour_12 ⟨fun z => absurd z hexk, fun _ => c3 _ _ (gc_X0_goColour_23 ⟨fun _ => ⟨vin (by omega) (by decide), fun _ => ?_, fun z => absurd rfl z⟩, fun z => absurd (nI_le (Nat.le_refl _) (by omega)) z⟩)⟩
        rw [cm, nI_1]
        exact h
      | true =>
        rw [hb] at ex c3
        obtain ⟨τ4, t1, t2, t3⟩ := ih d (m + 1) (q * n + k) (upA τ2.1 19 (upd (τ2.1 19) m (nI k)), τ2.2) (by omega) ex (fun i hi => by
          by_cases e : i = m
          · subst e
            rw [pD_m hk]
            refine ⟨?_, hk⟩
            show upA τ2.1 19 (upd (τ2.1 19) i (nI k)) 19 i = _
            rw [upA_s, upd_s]
          · rw [pD_i hk (by omega)]
            refine ⟨?_, (hl i (by omega)).2⟩
            rw [k3.2.1 i (by omega), q1.2.1 i (by omega)]
            exact (hl i (by omega)).1)
        rw [← hgk] at t1 t3
        have kk := (q1.tr k3).tr (t2.mo (by omega))
        have t1' : Tv ρ E A mX0_goColour (d + r + 1 + 4) 0 0 [.ref (A 0), .int (nI m + 1), .int (nI n)] (upA τ2.1 19 (upd (τ2.1 19) (nI m).toNatClampNeg (nI k)), τ2.2) (some (.int (bi (g k).isSome))) τ4 := by
          rw [cm, nI_1]
          exact t1
        cases hgv : g k with
        | none =>
          rw [hgv] at t1'
          refine Or.inl ⟨(), τ4, ⟨kk, by rw [fsA_s, q2, hgv]; rfl⟩, fun r9 σ1 h => ?_⟩
          refine gc_X0_goColour_12 ⟨fun z => absurd z hexk, fun _ => c3 _ _ (gc_X0_goColour_23 ⟨fun _ => ⟨vin (by omega) (by decide), fun z => absurd z (by decide), fun _ => ⟨_, _, t1', fun _ => ?_, fun z => absurd rfl z⟩⟩, fun z => absurd (nI_le (Nat.le_refl _) (by omega)) z⟩)⟩
          rw [nI_1]
          exact h
        | some c =>
          rw [hgv] at t1'
          refine Or.inr ⟨_, τ4, gc_X0_goColour_12 ⟨fun z => absurd z hexk, fun _ => c3 _ _ (gc_X0_goColour_23 ⟨fun _ => ⟨vin (by omega) (by decide), fun z => absurd z (by decide), fun _ => ⟨_, _, t1', fun z => absurd z (show ¬ bi true = 0 by decide), fun _ => ⟨rfl, rfl⟩⟩⟩, fun z => absurd (nI_le (Nat.le_refl _) (by omega)) z⟩)⟩, c, ?_, rfl, kk, t3 c hgv⟩
          have e1 : fsA g none (k + 1) = some c := by rw [fsA_s, q2, hgv]; rfl
          have := fsA_stay e1 (n - (k + 1))
          rw [show k + 1 + (n - (k + 1)) = n by omega] at this
          exact this) 0 () τ (Nat.zero_le _) ⟨klr.rf, rfl⟩ with ⟨_, τ1, ⟨a1, a2⟩, a3⟩ | ⟨r9, σ1, s1, c, s2, s3, s4, s5⟩
    · rw [a2]
      refine ⟨τ1, go a1.1.1 (a3 _ _ (gc_X0_goColour_12 ⟨fun _ => ⟨rfl, rfl⟩, fun z => absurd (nI_le (Nat.le_refl _) (by omega)) z⟩)), a1, fun c hc => by cases hc⟩
    · subst s3
      rw [s2]
      exact ⟨σ1, go s4.1.1 s1, s4, fun c' hc' => by cases hc'; exact s5⟩
theorem buttonsCM (d : Nat) (hT : tlV ρ) : ∃ σ1, Tv ρ E A mX0_buttons (d + 12) 0 0 [.ref (A 0)] σ (some (.int (btR (ρ.1 0) (σ.1 19) (btO (nrC ρ) (ρ.1 0) (ρ.1 0))).1)) σ1 ∧ kl σ (nI (ρ.1 0)) (btR (ρ.1 0) (σ.1 19) (btO (nrC ρ) (ρ.1 0) (ρ.1 0))).2 σ1 := by
  have h6 := hT.1
  have go : ∀ {r σ1}, σ1.2 = σ.2 → _ → Tv ρ E A mX0_buttons (d + 12) 0 0 [.ref (A 0)] σ r σ1 := fun h2 h => Tv.of [.ref (A 0), U_] (by decide) rfl (fun _ => Nat.le_of_ble_eq_true rfl) h2 (gc_X0_buttons_0 (d := d + 6) h)
  rcases iterCe (T := Unit) (fun k _ τ r σ1 => Rv ρ E A mX0_buttons (d + 6 + 6) 0 0 2 [.ref (A 0), .int (nI k)] [] τ r σ1) (fun k _ τ => klr 0 (ρ.1 0) σ τ ∧ (k = 0 ∨ btO (nrC ρ) (ρ.1 0) (k - 1) = none) ∧ (k = ρ.1 0 + 1 → False)) (fun r σ1 => r = some (.int (btR (ρ.1 0) (σ.1 19) (btO (nrC ρ) (ρ.1 0) (ρ.1 0))).1) ∧ kl σ (nI (ρ.1 0)) (btR (ρ.1 0) (σ.1 19) (btO (nrC ρ) (ρ.1 0) (ρ.1 0))).2 σ1) (ρ.1 0 + 1) (by
    rintro k ⟨⟩ τ hk ⟨q1, q2, q3⟩
    obtain ⟨τ1, t1, t2, t3⟩ := goColC (E := E) (A := A) h6 (n := k) (by omega) (ρ.1 0) (d + 6 - ρ.1 0) 0 0 τ (by omega) rfl (fun i hi => absurd hi (by omega))
    rw [show d + 6 - ρ.1 0 + ρ.1 0 + 5 = d + 6 + 5 by omega] at t1
    have kk := q1.tr t2
    cases hs : seR (nrC ρ) (ρ.1 0) k (ρ.1 0) 0 with
    | none =>
      rw [hs] at t1
      refine Or.inl ⟨(), τ1, ⟨kk, Or.inr ?_, fun e => ?_⟩, fun r σ1 h => ?_⟩
      · rw [Nat.add_sub_cancel]
        rcases q2 with z | z
        · rw [z]; rfl
        · by_cases k0 : k = 0
          · rw [k0]; rfl
          · have := btO_n z
            rw [show k - 1 + 1 = k by omega] at this
            rw [this, ← seR_0, hs]
            rfl
      · have e' : k = ρ.1 0 := by omega
        subst e'
        exact seR_id (nr := nrC ρ) (nm := ρ.1 0) (ρ.1 0) 0 0 (by omega) (fun i hi => absurd hi (by omega)) rfl hs
      · refine gc_X0_buttons_2 ⟨_, _, t1, fun z => absurd rfl z, fun _ => ?_⟩
        rw [nI_1]
        exact h
    | some c =>
      rw [hs] at t1
      have l2 := t3 c hs
      have fin : kl σ (nI (ρ.1 0)) (cpk (fun m => nI (dg k c (ρ.1 0 - 1 - m))) (σ.1 19) (ρ.1 0)) (upA τ1.1 0 (upd (τ1.1 0) 13 (nI (ρ.1 0))), τ1.2) := by
        refine ⟨kk.1.1, ?_, ?_, fun j hj => ?_, fun o ho => ?_⟩
        · show upA τ1.1 0 (upd (τ1.1 0) 13 (nI (ρ.1 0))) 0 13 = _
          rw [upA_s, upd_s]
        · show upA τ1.1 0 (upd (τ1.1 0) 13 (nI (ρ.1 0))) 19 = _
          rw [upA_n (by decide)]
          funext i
          unfold cpk
          by_cases z : i < ρ.1 0
          · rw [if_pos z]; exact l2 i z
          · rw [if_neg z]; exact kk.2.2 i (by omega)
        · show upA τ1.1 0 (upd (τ1.1 0) 13 (nI (ρ.1 0))) 0 j = _
          rw [upA_s, upd_n (fun z => hj (by rw [z]; decide)), kk.1.2 0 (by decide)]
        · show upA τ1.1 0 (upd (τ1.1 0) 13 (nI (ρ.1 0))) o = _
          rw [upA_n (fun z => ho (by rw [z]; decide)), kk.1.2 o (fun z => ho (by rcases List.mem_singleton.mp z with rfl; decide))]
      have eb : btR (ρ.1 0) (σ.1 19) (btO (nrC ρ) (ρ.1 0) (ρ.1 0)) = (nI k, cpk (fun m => nI (dg k c (ρ.1 0 - 1 - m))) (σ.1 19) (ρ.1 0)) := by
        by_cases k0 : k = 0
        · subst k0
          have z0 : ρ.1 0 = 0 := by
            apply Classical.byContradiction
            intro hz
            rw [seR_0, Nat.zero_pow (by omega)] at hs
            cases hs
          rw [z0, cpk_0]
          rfl
        · rcases q2 with z | z
          · exact absurd z k0
          · have e1 := btO_n z
            rw [show k - 1 + 1 = k by omega, ← seR_0, hs] at e1
            have e2 := btO_p e1 (ρ.1 0 - k)
            rw [show k + (ρ.1 0 - k) = ρ.1 0 by omega] at e2
            rw [e2]
            rfl
      refine Or.inr ⟨_, _, gc_X0_buttons_2 ⟨_, _, t1, fun _ => ⟨_, _, menC (d + 9), rfl, rfl⟩, fun z => absurd z (show ¬ bi true = 0 by decide)⟩, ?_, ?_⟩
      · rw [eb]
      · rw [eb]; exact fin) 0 () σ (Nat.zero_le _) ⟨klr.rf, Or.inl rfl, fun e => absurd e (by omega)⟩ with ⟨_, τ, ⟨a1, a2, a4⟩, a3⟩ | ⟨r, σ1, s1, s2, s3⟩
  · exact absurd rfl a4
  · subst s2
    exact ⟨σ1, go s3.1 s1, s3⟩
end C10
