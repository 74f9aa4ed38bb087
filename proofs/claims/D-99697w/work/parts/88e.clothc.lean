/-! the component: cloth -/
set_option maxRecDepth 100000
def sbs (k s : Nat) : Prop := (nI k &&& (nI s ^^^ (-1))) = 0
theorem less64 : ∀ (k s : Fin 64), 0 < k.val → (nI k.val &&& (nI s.val ^^^ (-1))) = 0 → (nI s.val &&& (nI k.val ^^^ (-1))).toNatClampNeg < s.val := by decide +kernel
theorem le64 : ∀ (k s : Fin 64), (nI k.val &&& (nI s.val ^^^ (-1))) = 0 → k.val ≤ s.val := by decide +kernel
theorem lessS_lt {s k : Nat} (hk0 : 0 < k) (hk : k < 64) (hs : s < 64) (h : sbs k s) : lessS s k < s := less64 ⟨k, hk⟩ ⟨s, hs⟩ hk0 h
theorem sbs_le {s k : Nat} (hk : k < 64) (hs : s < 64) (h : sbs k s) : k ≤ s := le64 ⟨k, hk⟩ ⟨s, hs⟩ h
/-- the least lengths, by sets -/
def isLen (row : Nat → Nat) (N : Nat) (b : Nat → Nat) : Prop := b 0 = 0 ∧ ∀ s, 0 < s → s < N → b s ≤ 1000000 ∧ (∀ k, 0 < k → k < 64 → sbs k s → b s ≤ row k + b (lessS s k)) ∧ (b s = 1000000 ∨ ∃ k, 0 < k ∧ k < 64 ∧ sbs k s ∧ b s = row k + b (lessS s k))
theorem isLen_uniq {row : Nat → Nat} {N : Nat} (hN : N ≤ 64) {b b' : Nat → Nat} (h : isLen row N b) (h' : isLen row N b') : ∀ s, s < N → b s = b' s := by
  intro s
  induction s using Nat.strongRecOn with
  | _ s ih =>
    intro hs
    by_cases z : s = 0
    · subst z; rw [h.1, h'.1]
    obtain ⟨a1, a2, a3⟩ := h.2 s (by omega) hs
    obtain ⟨c1, c2, c3⟩ := h'.2 s (by omega) hs
    have le1 : b' s ≤ b s := by
      rcases a3 with e | ⟨k, k0, k1, k2, e⟩
      · omega
      · have := c2 k k0 k1 k2
        rw [← ih _ (lessS_lt k0 k1 (by omega) k2) (by have := lessS_lt k0 k1 (by omega) k2; omega)] at this
        omega
    have le2 : b s ≤ b' s := by
      rcases c3 with e | ⟨k, k0, k1, k2, e⟩
      · omega
      · have := a2 k k0 k1 k2
        rw [ih _ (lessS_lt k0 k1 (by omega) k2) (by have := lessS_lt k0 k1 (by omega) k2; omega)] at this
        omega
    omega
theorem isLen_bd {row : Nat → Nat} {N : Nat} (hN : N ≤ 64) (hr : ∀ k, k < 64 → row k ≤ 99 ∨ row k = 1000000) {b : Nat → Nat} (h : isLen row N b) : ∀ s, s < N → b s ≤ 99 * s ∨ b s = 1000000 := by
  intro s
  induction s using Nat.strongRecOn with
  | _ s ih =>
    intro hs
    by_cases z : s = 0
    · subst z; rw [h.1]; omega
    obtain ⟨a1, a2, a3⟩ := h.2 s (by omega) hs
    rcases a3 with e | ⟨k, k0, k1, k2, e⟩
    · exact Or.inr e
    · have hl := lessS_lt k0 k1 (by omega) k2
      rcases ih _ hl (by omega) with q | q
      · rcases hr k k1 with y | y
        · left; omega
        · right; omega
      · right; omega
theorem isLen_ext {row : Nat → Nat} {N x : Nat} (hN : N < 64) (h0 : 0 < N) {b : Nat → Nat} (h : isLen row N b) (h1 : x ≤ 1000000) (h2 : ∀ k, 0 < k → k < 64 → sbs k N → x ≤ row k + b (lessS N k)) (h3 : x = 1000000 ∨ ∃ k, 0 < k ∧ k < 64 ∧ sbs k N ∧ x = row k + b (lessS N k)) : isLen row (N + 1) (fun s => if s = N then x else b s) := by
  have e : ∀ s k, 0 < k → k < 64 → s ≤ N → sbs k s → (if lessS s k = N then x else b (lessS s k)) = b (lessS s k) := fun s k k0 k1 hs k2 => by
    rw [if_neg]
    have := lessS_lt k0 k1 (show s < 64 by omega) k2
    omega
  refine ⟨by dsimp only; rw [if_neg (by omega)]; exact h.1, fun s hs0 hs => ?_⟩
  dsimp only
  by_cases z : s = N
  · subst z
    rw [if_pos rfl]
    refine ⟨h1, fun k k0 k1 k2 => by rw [e _ _ k0 k1 (Nat.le_refl _) k2]; exact h2 k k0 k1 k2, ?_⟩
    rcases h3 with q | ⟨k, k0, k1, k2, q⟩
    · exact Or.inl q
    · exact Or.inr ⟨k, k0, k1, k2, by rw [e _ _ k0 k1 (Nat.le_refl _) k2]; exact q⟩
  · rw [if_neg z]
    obtain ⟨a1, a2, a3⟩ := h.2 s hs0 (by omega)
    refine ⟨a1, fun k k0 k1 k2 => by rw [e _ _ k0 k1 (by omega) k2]; exact a2 k k0 k1 k2, ?_⟩
    rcases a3 with q | ⟨k, k0, k1, k2, q⟩
    · exact Or.inl q
    · exact Or.inr ⟨k, k0, k1, k2, by rw [e _ _ k0 k1 (by omega) k2]; exact q⟩
theorem gre_nI {a b : Nat} (ha : a < 100000) (hb : b < 100000) : s8_greater (nI a) (nI b) = nI (max a b) := by
  rw [← max_g]
  unfold sj_max
  by_cases h : a < b
  · rw [if_pos (nI_lt h (by omega)), Nat.max_eq_right (by omega)]
  · rw [if_neg (by rw [i32_nlt]; exact nI_le (by omega) (by omega)), Nat.max_eq_left (by omega)]
/-- a row's length: small, or none -/
theorem rowP_n {v : Nat → Int32} {nm nc : Nat} {set : Int32} (hc6 : nc ≤ 6) (hr : rgV v nm nc) : ∀ n, n ≤ nc → ∃ a t, a ≤ 99 * n ∧ t ≤ 99 ∧ rowP v set n = (nI a, nI t) := by
  intro n
  induction n with
  | zero => intro _; exact ⟨0, 0, by omega, by omega, rfl⟩
  | succ n ih =>
    intro hn
    obtain ⟨a, t, ha, ht, e⟩ := ih (by omega)
    rw [rowP_s, e]
    split
    · exact ⟨a, t, by omega, ht, rfl⟩
    · obtain ⟨x, hx, ex⟩ := okn_nI (hr.2 n (by omega)).2.1
      obtain ⟨y, hy, ey⟩ := okn_nI (hr.2 n (by omega)).1
      exact ⟨a + x, max t y, by omega, by omega, by dsimp only; rw [ex, ey, nI_add, gre_nI (by omega) (by omega)]⟩
def rowN (v : Nat → Int32) (bolt : Int32) (nc k : Nat) : Nat := (rowE v bolt (nI k) nc).toNatClampNeg
theorem rowN_s {v : Nat → Int32} {nm nc : Nat} {bolt : Int32} (hc6 : nc ≤ 6) (hr : rgV v nm nc) (k : Nat) : ((rowP v (nI k) nc).1 ≤ bolt ∧ rowN v bolt nc k ≤ 99 ∧ (rowP v (nI k) nc).2 = nI (rowN v bolt nc k) ∨ ¬ (rowP v (nI k) nc).1 ≤ bolt ∧ rowN v bolt nc k = 1000000) ∧ rowE v bolt (nI k) nc = nI (rowN v bolt nc k) := by
  obtain ⟨a, t, ha, ht, e⟩ := rowP_n (set := nI k) hc6 hr nc (Nat.le_refl _)
  unfold rowN rowE
  by_cases q : (rowP v (nI k) nc).1 ≤ bolt
  · rw [if_pos q, e]
    have : (nI t).toNatClampNeg = t := cl (by omega)
    rw [this]
    exact ⟨Or.inl ⟨by rw [e] at q; exact q, ht, rfl⟩, rfl⟩
  · rw [if_neg q]
    have : (1000000 : Int32).toNatClampNeg = 1000000 := by decide
    rw [this]
    exact ⟨Or.inr ⟨q, rfl⟩, rfl⟩
theorem rowN_b {v : Nat → Int32} {nm nc : Nat} {bolt : Int32} (hc6 : nc ≤ 6) (hr : rgV v nm nc) : ∀ k, k < 64 → rowN v bolt nc k ≤ 99 ∨ rowN v bolt nc k = 1000000 := fun k _ => by
  rcases (rowN_s (bolt := bolt) hc6 hr k).1 with q | q
  · exact Or.inl q.2.1
  · exact Or.inr q.2
theorem les9 {a b : Nat} (ha : a ≤ 1000000) (hb : b ≤ 2000000) : s8_lesser (nI a) (nI b) = nI (min a b) := by
  unfold s8_lesser
  by_cases h : a < b
  · rw [Nat.min_eq_left (by omega)]
    split
    · rename_i q
      exact absurd q (nI_ge h (by omega))
    · rfl
  · rw [Nat.min_eq_right (by omega)]
    split
    · rfl
    · rename_i q
      exact absurd (nI_le (by omega) (by omega)) q
/-- the twin's row for one set -/
theorem clI_n {v : Nat → Int32} {nm nc : Nat} {bolt : Int32} (hc6 : nc ≤ 6) (hr : rgV v nm nc) {N : Nat} {L : Nat → Int32} {b : Nat → Nat} (hN : N < 64) (h0 : 0 < N) (hB : isLen (rowN v bolt nc) N b) (hL : ∀ s, s < N → L s = nI (b s)) : ∀ j, j ≤ N + 1 → (∀ s, s ≠ N → clI v bolt nc N L j s = L s) ∧ ∃ x, clI v bolt nc N L j N = nI x ∧ x ≤ 1000000 ∧ (∀ k, 0 < k → k < j → sbs k N → x ≤ rowN v bolt nc k + b (lessS N k)) ∧ (x = 1000000 ∨ ∃ k, 0 < k ∧ k < 64 ∧ sbs k N ∧ x = rowN v bolt nc k + b (lessS N k)) := by
  intro j
  induction j with
  | zero =>
    intro _
    refine ⟨fun s hs => ?_, 1000000, ?_, Nat.le_refl _, fun k _ hk => absurd hk (by omega), Or.inl rfl⟩
    · show upd L N 1000000 s = _
      rw [upd_n hs]
    · show upd L N 1000000 N = _
      rw [upd_s]
      rfl
  | succ j ih =>
    intro hj
    obtain ⟨i1, x, i2, i3, i4, i5⟩ := ih (by omega)
    rw [clI_s]
    by_cases z : j = 0
    · rw [if_pos z]
      exact ⟨i1, x, i2, i3, fun k k0 k1 k2 => absurd k1 (by omega), i5⟩
    rw [if_neg z]
    by_cases y : (nI j &&& (nI N ^^^ (-1))) = 0
    · rw [if_pos y]
      have hl := lessS_lt (show 0 < j by omega) (show j < 64 by omega) hN y
      have hbl : b (lessS N j) ≤ 1000000 := by
        by_cases q : lessS N j = 0
        · rw [q, hB.1]; omega
        · exact (hB.2 _ (by omega) hl).1
      have hrow : rowN v bolt nc j ≤ 1000000 := by rcases rowN_b (bolt := bolt) hc6 hr j (by omega) with q | q <;> omega
      have ev : s8_lesser (clI v bolt nc N L j N) (rowE v bolt (nI j) nc + clI v bolt nc N L j (lessS N j)) = nI (min x (rowN v bolt nc j + b (lessS N j))) := by
        rw [i2, i1 _ (by omega), hL _ hl, (rowN_s (bolt := bolt) hc6 hr j).2, nI_add, les9 i3 (by omega)]
      rw [ev]
      refine ⟨fun s hs => by rw [upd_n hs]; exact i1 s hs, min x (rowN v bolt nc j + b (lessS N j)), by rw [upd_s], by omega, fun k k0 k1 k2 => ?_, ?_⟩
      · by_cases q : k = j
        · subst q; omega
        · have := i4 k k0 (by omega) k2; omega
      · by_cases q : x ≤ rowN v bolt nc j + b (lessS N j)
        · rw [Nat.min_eq_left q]; exact i5
        · rw [Nat.min_eq_right (by omega)]; exact Or.inr ⟨j, by omega, by omega, y, rfl⟩
    · rw [if_neg y]
      refine ⟨i1, x, i2, i3, fun k k0 k1 k2 => ?_, i5⟩
      by_cases q : k = j
      · subst q; exact absurd k2 y
      · exact i4 k k0 (by omega) k2
theorem clO_n {v : Nat → Int32} {nm nc : Nat} {bolt : Int32} (hc6 : nc ≤ 6) (hr : rgV v nm nc) (L : Nat → Int32) : ∀ N, N < 64 → ∃ b, isLen (rowN v bolt nc) (N + 1) b ∧ ∀ s, s < N + 1 → clO v bolt nc L (N + 1) s = nI (b s) := by
  intro N
  induction N with
  | zero =>
    intro _
    refine ⟨fun _ => 0, ⟨rfl, fun s h1 h2 => absurd h2 (by omega)⟩, fun s hs => ?_⟩
    have : s = 0 := by omega
    subst this
    rw [clO_s, if_pos rfl]
    show upd L 0 0 0 = _
    rw [upd_s]
    rfl
  | succ N ih =>
    intro hN
    obtain ⟨b, h1, h2⟩ := ih (by omega)
    obtain ⟨c1, x, c2, c3, c4, c5⟩ := clI_n hc6 hr (N := N + 1) (L := clO v bolt nc L (N + 1)) hN (by omega) h1 h2 (N + 2) (by omega)
    refine ⟨_, isLen_ext hN (by omega) h1 c3 (fun k k0 k1 k2 => c4 k k0 (by have := sbs_le k1 hN k2; omega) k2) c5, fun s hs => ?_⟩
    rw [clO_s, if_neg (by omega)]
    by_cases z : s = N + 1
    · subst z; rw [if_pos rfl]; exact c2
    · rw [if_neg z, c1 s z]; exact h2 s (by omega)
/-- a length as the component holds it -/
def cod (x : Nat) : Int32 := if x < 1000000 then nI x else -1
section C7
variable {ρ : Rho} {E : Hp → Prop} {A : Nat → Nat} {σ : Sg}
theorem bz_has (s : Int32) (k : Nat) : bz s k = decide (s0_has s (nI k) = 0) := by
  have h : ∀ x : Int32, (x &&& 1) = 0 ∨ (x &&& 1) = 1 := by
    intro x
    have h0 : (x &&& 1).toBitVec.toNat = x.toBitVec.toNat % 2 := by
      rw [Int32.toBitVec_and, BitVec.toNat_and]
      exact Nat.and_one_is_mod _
    have h1 : (x &&& 1).toBitVec = 0#32 ∨ (x &&& 1).toBitVec = 1#32 := by
      rcases Nat.mod_two_eq_zero_or_one x.toBitVec.toNat with q | q
      · exact Or.inl (BitVec.eq_of_toNat_eq (by rw [h0, q]; rfl))
      · exact Or.inr (BitVec.eq_of_toNat_eq (by rw [h0, q]; rfl))
    rcases h1 with q | q
    · exact Or.inl (Int32.toBitVec_inj.mp q)
    · exact Or.inr (Int32.toBitVec_inj.mp q)
  unfold bz s0_has
  rcases h (s >>> (nI k &&& 31)) with q | q
  · rw [q]; decide
  · rw [q]; decide
theorem rowC (d : Nat) {k : Nat} (hT : tlV ρ) (hN : okNow ρ (stV σ 1)) : Tv ρ E A mX0_rowOf (d + 3) 0 0 [.ref (A 0), .int (nI k)] σ (some (.int (cod (rowN (stV σ 1) (rgI ρ 10) (ρ.1 1) k)))) σ := by
  have h6c := hT.2.1
  obtain ⟨p, τ, ⟨h1, h2⟩, h3⟩ := iterC (T := Int32 × Int32) (fun c p τ r σ1 => Rv ρ E A mX0_rowOf (d + 3) 0 0 7 [.ref (A 0), .int (nI k), .int p.1, .int p.2, .int (nI c)] [] τ r σ1) (fun c p τ => p = rowP (stV σ 1) (nI k) c ∧ τ = σ) (ρ.1 1) (by
    rintro c p τ hc ⟨q0, rfl⟩
    refine ⟨_, τ, ⟨rfl, rfl⟩, fun r σ1 h => ?_⟩
    rw [rowP_s, bz_has, ← q0] at h
    refine gc_X0_rowOf_7 ⟨_, _, coatsC d, fun q => absurd q (nI_ge hc (by omega)), fun _ => ⟨fun hb => ⟨vin (by omega) (by decide), ?_⟩, fun hb => ?_⟩⟩
    · rw [decide_eq_false hb, if_neg (by decide)] at h
      rw [cl (by omega), rdn3 (by omega), rdn2 (by omega), max_g, nI_1]
      exact h
    · rw [decide_eq_true hb, if_pos rfl] at h
      rw [nI_1]
      exact h) 0 (0, 0) σ (Nat.zero_le _) ⟨rfl, rfl⟩
  subst h1; subst h2
  refine Tv.of [.ref (A 0), .int (nI k), U_, U_, U_] (by decide) rfl (fun _ => Nat.le_of_ble_eq_true rfl) rfl (gc_X0_rowOf_0 (h3 _ _ (gc_X0_rowOf_7 ⟨_, _, coatsC d, fun _ => ⟨?_, rfl⟩, fun q => absurd (nI_le (Nat.le_refl _) (by omega)) q⟩)))
  rcases (rowN_s (bolt := rgI ρ 10) h6c hN.1 k).1 with ⟨q1, q2, q3⟩ | ⟨q1, q2⟩
  · rw [if_neg (Int32.not_lt.mpr q1), q3]
    unfold cod
    rw [if_pos (by omega)]
  · rw [if_pos (Int32.not_le.mp q1), q2]
    rfl
theorem dn64 : ∀ (s r : Fin 64), r.val &&& s.val = r.val → ∀ k : Fin 64, k.val &&& s.val = k.val → k.val < r.val → k.val ≤ (r.val - 1) &&& s.val := by decide +kernel
theorem an64 : ∀ (s r : Fin 64), 0 < r.val → (nI r.val - 1) &&& nI s.val = nI ((r.val - 1) &&& s.val) ∧ ((r.val - 1) &&& s.val) < r.val ∧ (nI ((r.val - 1) &&& s.val) &&& (nI s.val ^^^ (-1))) = 0 := by decide +kernel
theorem sb64 : ∀ (s r : Fin 64), (nI r.val &&& (nI s.val ^^^ (-1))) = 0 ↔ r.val &&& s.val = r.val := by decide +kernel
theorem ls64 : ∀ (s r : Fin 64), nI s.val &&& (nI r.val ^^^ (-1)) = nI (nI s.val &&& (nI r.val ^^^ (-1))).toNatClampNeg ∧ (nI s.val &&& (nI r.val ^^^ (-1))).toNatClampNeg < 64 := by decide +kernel
theorem cod_lt {x : Nat} : cod x < 0 ↔ 1000000 ≤ x := by
  unfold cod
  by_cases h : x < 1000000
  · rw [if_pos h]
    exact ⟨fun q => absurd q (nI_nneg (by omega)), fun q => absurd q (by omega)⟩
  · rw [if_neg h]
    exact ⟨fun _ => by omega, fun _ => by decide⟩
/-- the component's row for one set, from row r down -/
theorem clothIn (d : Nat) (hT : tlV ρ) {v : Nat → Int32} (hv : stV σ 1 = v) (hN : okNow ρ v) {s : Nat} (hs : s < 64) (h0 : 0 < s) {b : Nat → Nat} (hB : isLen (rowN v (rgI ρ 10) (ρ.1 1)) s b) : ∀ (r : Nat) (τ : Sg) (x : Nat), r < 64 → sbs r s → kc [23] σ τ → (∀ j, j < s → τ.1 23 j = cod (b j)) → τ.1 23 s = cod x → x ≤ 1000000 → (∀ k, r < k → k < 64 → sbs k s → x ≤ rowN v (rgI ρ 10) (ρ.1 1) k + b (lessS s k)) → (x = 1000000 ∨ ∃ k, 0 < k ∧ k < 64 ∧ sbs k s ∧ x = rowN v (rgI ρ 10) (ρ.1 1) k + b (lessS s k)) →
    ∃ τ1 x1, kc [23] σ τ1 ∧ (∀ j, j < s → τ1.1 23 j = cod (b j)) ∧ τ1.1 23 s = cod x1 ∧ x1 ≤ 1000000 ∧ (∀ k, 0 < k → k < 64 → sbs k s → x1 ≤ rowN v (rgI ρ 10) (ρ.1 1) k + b (lessS s k)) ∧ (x1 = 1000000 ∨ ∃ k, 0 < k ∧ k < 64 ∧ sbs k s ∧ x1 = rowN v (rgI ρ 10) (ρ.1 1) k + b (lessS s k)) ∧ ∀ q σ1, Rv ρ E A mX0_cloth (d + 4) 0 0 28 [.ref (A 0), .int (nI s), .int (nI 0), U_, U_] [] τ1 q σ1 → Rv ρ E A mX0_cloth (d + 4) 0 0 28 [.ref (A 0), .int (nI s), .int (nI r), U_, U_] [] τ q σ1 := by
  intro r
  have h6c := hT.2.1
  induction r using Nat.strongRecOn with
  | _ r ih =>
    intro τ x hr hsb q1 q2 q3 q4 q5 q6
    by_cases z : r = 0
    · subst z
      exact ⟨τ, x, q1, q2, q3, q4, q5, q6, fun _ _ h => h⟩
    have ev : stV τ 1 = v := by rw [stV_kc q1 (by decide)]; exact hv
    obtain ⟨n1, n2, n3⟩ := an64 ⟨s, hs⟩ ⟨r, hr⟩ (by dsimp only; omega)
    dsimp only at n1 n2 n3
    obtain ⟨l1, l2⟩ := ls64 ⟨s, hs⟩ ⟨r, hr⟩
    dsimp only at l1 l2
    have hl := lessS_lt (show 0 < r by omega) hr hs hsb
    have lS : (nI s &&& (nI r ^^^ (-1))).toNatClampNeg = lessS s r := rfl
    rw [lS] at l1 l2
    have cS : (nI s).toNatClampNeg = s := cl (by omega)
    have hcov : ∀ k, (r - 1) &&& s < k → k < 64 → sbs k s → k = r ∨ r < k := by
      intro k h1 h2 h3
      apply Classical.byContradiction
      intro h4
      have := dn64 ⟨s, hs⟩ ⟨r, hr⟩ ((sb64 ⟨s, hs⟩ ⟨r, hr⟩).mp hsb) ⟨k, h2⟩ ((sb64 ⟨s, hs⟩ ⟨k, h2⟩).mp h3) (by dsimp only; omega)
      dsimp only at this
      omega
    have hro := rowC d (E := E) (A := A) (σ := τ) (k := r) hT (by rw [ev]; exact hN)
    rw [ev] at hro
    have hbd := isLen_bd (by omega) (rowN_b (bolt := rgI ρ 10) h6c hN.1) hB (lessS s r) hl
    have hrb := rowN_b (bolt := rgI ρ 10) h6c hN.1 r hr
    have e23 : τ.1 23 (nI s &&& (nI r ^^^ (-1))).toNatClampNeg = cod (b (lessS s r)) := by rw [lS]; exact q2 _ hl
    have hgt : ¬ nI r ≤ 0 := nI_nle (by omega) (by omega)
    have bnd : vp_in (nI s &&& (nI r ^^^ (-1))) 64 := by rw [l1]; exact vin l2 (by decide)
    generalize hrow : rowN v (rgI ρ 10) (ρ.1 1) r = w at hro hrb
    generalize hbl : b (lessS s r) = y at hbd e23
    -- nothing changes
    have keep : x ≤ w + y → ∃ τ1 x1, kc [23] σ τ1 ∧ (∀ j, j < s → τ1.1 23 j = cod (b j)) ∧ τ1.1 23 s = cod x1 ∧ x1 ≤ 1000000 ∧ (∀ k, 0 < k → k < 64 → sbs k s → x1 ≤ rowN v (rgI ρ 10) (ρ.1 1) k + b (lessS s k)) ∧ (x1 = 1000000 ∨ ∃ k, 0 < k ∧ k < 64 ∧ sbs k s ∧ x1 = rowN v (rgI ρ 10) (ρ.1 1) k + b (lessS s k)) ∧ ∀ q σ1, Rv ρ E A mX0_cloth (d + 4) 0 0 28 [.ref (A 0), .int (nI s), .int (nI 0), U_, U_] [] τ1 q σ1 → Rv ρ E A mX0_cloth (d + 4) 0 0 28 [.ref (A 0), .int (nI s), .int ((nI r - 1) &&& nI s), U_, U_] [] τ q σ1 := by
      intro hx
      rw [n1]
      exact ih _ n2 τ x (by omega) n3 q1 q2 q3 q4 (fun k k1 k2 k3 => by
        rcases hcov k k1 k2 k3 with e | e
        · subst e; rw [hrow, hbl]; exact hx
        · exact q5 k e k2 k3) q6
    have put : w + y < x → w + y < 1000000 → ∃ τ1 x1, kc [23] σ τ1 ∧ (∀ j, j < s → τ1.1 23 j = cod (b j)) ∧ τ1.1 23 s = cod x1 ∧ x1 ≤ 1000000 ∧ (∀ k, 0 < k → k < 64 → sbs k s → x1 ≤ rowN v (rgI ρ 10) (ρ.1 1) k + b (lessS s k)) ∧ (x1 = 1000000 ∨ ∃ k, 0 < k ∧ k < 64 ∧ sbs k s ∧ x1 = rowN v (rgI ρ 10) (ρ.1 1) k + b (lessS s k)) ∧ ∀ q σ1, Rv ρ E A mX0_cloth (d + 4) 0 0 28 [.ref (A 0), .int (nI s), .int (nI 0), U_, U_] [] τ1 q σ1 → Rv ρ E A mX0_cloth (d + 4) 0 0 28 [.ref (A 0), .int (nI s), .int ((nI r - 1) &&& nI s), U_, U_] [] (upA τ.1 23 (upd (τ.1 23) s (nI (w + y))), τ.2) q σ1 := by
      intro hx hy
      rw [n1]
      refine ih _ n2 _ (w + y) (by omega) n3 (q1.up (o := 23) (by decide) _) (fun j hj => ?_) ?_ (by omega) (fun k k1 k2 k3 => ?_) (Or.inr ⟨r, by omega, hr, hsb, by rw [hrow, hbl]⟩)
      · show upA τ.1 23 (upd (τ.1 23) s (nI (w + y))) 23 j = _
        rw [upA_s, upd_n (by omega)]
        exact q2 j hj
      · show upA τ.1 23 (upd (τ.1 23) s (nI (w + y))) 23 s = _
        rw [upA_s, upd_s]
        unfold cod
        rw [if_pos hy]
      · rcases hcov k k1 k2 k3 with e | e
        · subst e; rw [hrow, hbl]; omega
        · have := q5 k e k2 k3; omega
    by_cases c1 : 1000000 ≤ w
    · obtain ⟨τ1, x1, a1, a2, a3, a4, a5, a6, a7⟩ := keep (by omega)
      exact ⟨τ1, x1, a1, a2, a3, a4, a5, a6, fun q σ1 h => gc_X0_cloth_28 ⟨fun q => absurd q hgt, fun _ => ⟨_, _, hro, bnd, fun _ => a7 q σ1 h, fun q => absurd (cod_lt.mpr c1) q⟩⟩⟩
    by_cases c2 : 1000000 ≤ y
    · obtain ⟨τ1, x1, a1, a2, a3, a4, a5, a6, a7⟩ := keep (by omega)
      exact ⟨τ1, x1, a1, a2, a3, a4, a5, a6, fun q σ1 h => gc_X0_cloth_28 ⟨fun q => absurd q hgt, fun _ => ⟨_, _, hro, bnd, fun q => absurd (cod_lt.mp q) c1, fun _ => ⟨fun _ => a7 q σ1 h, fun q => absurd (by rw [e23]; exact cod_lt.mpr c2) q⟩⟩⟩⟩
    have es : cod w + cod y = nI (w + y) := by
      unfold cod
      rw [if_pos (by omega), if_pos (by omega), nI_add]
    have hsum : w + y < 1000000 := by
      clear keep put q5 q6 ih
      omega
    by_cases c3 : 1000000 ≤ x
    · obtain ⟨τ1, x1, a1, a2, a3, a4, a5, a6, a7⟩ := put (by omega) hsum
      refine ⟨τ1, x1, a1, a2, a3, a4, a5, a6, fun q σ1 h => gc_X0_cloth_28 ⟨fun q => absurd q hgt, fun _ => ⟨_, _, hro, bnd, fun q => absurd (cod_lt.mp q) c1, fun _ => ⟨fun q => absurd (by rw [e23] at q; exact cod_lt.mp q) c2, fun _ => ⟨vin hs (by decide), fun _ => ?_, fun q => absurd (by rw [cS, q3]; exact cod_lt.mpr c3) q⟩⟩⟩⟩⟩
      rw [e23, es, cS]
      exact a7 q σ1 h
    have ex : τ.1 23 (nI s).toNatClampNeg = nI x := by
      rw [cS, q3]
      unfold cod
      rw [if_pos (by omega)]
    by_cases c4 : x ≤ w + y
    · obtain ⟨τ1, x1, a1, a2, a3, a4, a5, a6, a7⟩ := keep c4
      exact ⟨τ1, x1, a1, a2, a3, a4, a5, a6, fun q σ1 h => gc_X0_cloth_28 ⟨fun q => absurd q hgt, fun _ => ⟨_, _, hro, bnd, fun q => absurd (cod_lt.mp q) c1, fun _ => ⟨fun q => absurd (by rw [e23] at q; exact cod_lt.mp q) c2, fun _ => ⟨vin hs (by decide), fun q => absurd q (by rw [ex]; exact nI_nneg (by omega)), fun _ => ⟨fun _ => a7 q σ1 h, fun q => absurd (by rw [ex, e23, es]; exact nI_le c4 (by omega)) q⟩⟩⟩⟩⟩⟩
    · obtain ⟨τ1, x1, a1, a2, a3, a4, a5, a6, a7⟩ := put (by omega) hsum
      refine ⟨τ1, x1, a1, a2, a3, a4, a5, a6, fun q σ1 h => gc_X0_cloth_28 ⟨fun q => absurd q hgt, fun _ => ⟨_, _, hro, bnd, fun q => absurd (cod_lt.mp q) c1, fun _ => ⟨fun q => absurd (by rw [e23] at q; exact cod_lt.mp q) c2, fun _ => ⟨vin hs (by decide), fun q => absurd q (by rw [ex]; exact nI_nneg (by omega)), fun _ => ⟨fun q => absurd q (by rw [ex, e23, es]; exact nI_ge (by omega) (by omega)), fun _ => ?_⟩⟩⟩⟩⟩⟩
      rw [e23, es, cS]
      exact a7 q σ1 h
theorem clothCM (d : Nat) (L : Nat → Int32) (hT : tlV ρ) (hN : okNow ρ (stV σ 1)) :
    ∃ σ1, Tv ρ E A mX0_cloth (d + 4) 0 0 [.ref (A 0)] σ (some (.int (if clO (stV σ 1) (rgI ρ 10) (ρ.1 1) L (2 ^ ρ.1 1) (2 ^ ρ.1 1 - 1) < 1000000 then clO (stV σ 1) (rgI ρ 10) (ρ.1 1) L (2 ^ ρ.1 1) (2 ^ ρ.1 1 - 1) else -1))) σ1 ∧ kc [23] σ σ1 := by
  have h6c := hT.2.1
  generalize hv : stV σ 1 = v
  rw [hv] at hN
  have hp : 2 ^ ρ.1 1 ≤ 2 ^ 6 := Nat.pow_le_pow_right (by decide) h6c
  have hp0 : 0 < 2 ^ ρ.1 1 := Nat.pow_pos (by decide)
  have sh : (1 : Int32) <<< (nI (ρ.1 1) &&& 31) = nI (2 ^ ρ.1 1) := sh64 ⟨ρ.1 1, by omega⟩
  generalize hM : 2 ^ ρ.1 1 = M at hp hp0 sh
  obtain ⟨b, τ, ⟨a1, a2, a3⟩, a4⟩ := iterC (T := Nat → Nat) (fun i b τ r σ1 => Rv ρ E A mX0_cloth (d + 4) 0 0 9 [.ref (A 0), .int (nI (i + 1)), U_, U_, U_] [] τ r σ1) (fun i b τ => kc [23] σ τ ∧ isLen (rowN v (rgI ρ 10) (ρ.1 1)) (i + 1) b ∧ ∀ j, j < i + 1 → τ.1 23 j = cod (b j)) (M - 1) (by
    rintro i b τ hi ⟨q1, q2, q3⟩
    have ev : stV τ 1 = v := by rw [stV_kc q1 (by decide)]; exact hv
    have kup : kc [23] σ (upA τ.1 23 (upd (τ.1 23) (i + 1) (-1)), τ.2) := q1.up (o := 23) (by decide) _
    obtain ⟨τ1, x, d1, d2, d3, d4, d5, d6, d7⟩ := clothIn d (E := E) (A := A) (σ := σ) hT hv hN (s := i + 1) (by omega) (by omega) q2 (i + 1) (upA τ.1 23 (upd (τ.1 23) (i + 1) (-1)), τ.2) 1000000 (by omega) (self64 ⟨i + 1, by omega⟩) kup (fun j hj => by
        show upA τ.1 23 (upd (τ.1 23) (i + 1) (-1)) 23 j = _
        rw [upA_s, upd_n (by omega)]
        exact q3 j hj) (by
        show upA τ.1 23 (upd (τ.1 23) (i + 1) (-1)) 23 (i + 1) = _
        rw [upA_s, upd_s]
        rfl) (Nat.le_refl _) (fun k k1 k2 k3 => by have := sbs_le k2 (show i + 1 < 64 by omega) k3; omega) (Or.inl rfl)
    refine ⟨_, τ1, ⟨d1, isLen_ext (by omega) (by omega) q2 d4 d5 d6, fun j hj => ?_⟩, fun r σ1 h => ?_⟩
    · by_cases z : j = i + 1
      · subst z; rw [if_pos rfl]; exact d3
      · rw [if_neg z]; exact d2 j (by omega)
    · refine gc_X0_cloth_9 ⟨_, _, coatsC (d + 1), fun q => absurd (by rw [sh] at q; exact q) (nI_ge (by omega) (by omega)), fun _ => ⟨vin (by omega) (by decide), ?_⟩⟩
      rw [cl (by omega)]
      refine d7 _ _ (gc_X0_cloth_28 ⟨fun _ => ?_, fun q => absurd (by decide) q⟩)
      rw [nI_1]
      exact h) 0 (fun _ => 0) (upA σ.1 23 (upd (σ.1 23) 0 0), σ.2) (Nat.zero_le _) ⟨kc.rf.up (o := 23) (by decide) _, ⟨rfl, fun s h1 h2 => absurd h2 (by omega)⟩, fun j hj => by
        have : j = 0 := by omega
        subst this
        show upA σ.1 23 (upd (σ.1 23) 0 0) 23 0 = _
        rw [upA_s, upd_s]
        rfl⟩
  have eM : M - 1 + 1 = M := by omega
  rw [eM] at a2 a3 a4
  obtain ⟨b', c1, c2⟩ := clO_n (bolt := rgI ρ 10) h6c hN.1 L (M - 1) (by omega)
  rw [eM] at c1 c2
  have eb := isLen_uniq (by omega) a2 c1 (M - 1) (by omega)
  have hbd := isLen_bd (by omega) (rowN_b (bolt := rgI ρ 10) h6c hN.1) c1 (M - 1) (by omega)
  have em1 : (nI M - 1 : Int32) = nI (M - 1) := pk_sub (b := 1) (by omega)
  refine ⟨τ, Tv.of [.ref (A 0), U_, U_, U_, U_] (by decide) rfl (fun _ => Nat.le_of_ble_eq_true rfl) a1.1 (gc_X0_cloth_0 (a4 _ _ (gc_X0_cloth_9 ⟨_, _, coatsC (d + 1), fun _ => ⟨_, _, coatsC (d + 1), by rw [sh, em1]; exact vin (by omega) (by decide), ?_, rfl⟩, fun q => absurd (by rw [sh]; exact nI_le (Nat.le_refl _) (by omega)) q⟩))), a1⟩
  rw [sh, em1, cl (by omega), a3 _ (by omega), eb, c2 _ (by omega)]
  unfold cod
  by_cases q : b' (M - 1) < 1000000
  · have q9 : nI (b' (M - 1)) < (1000000 : Int32) := nI_lt (b := 1000000) q (by decide)
    rw [if_pos q, if_pos q9]
  · have q9 : ¬ nI (b' (M - 1)) < (1000000 : Int32) := by
      rw [i32_nlt]; exact nI_le (a := 1000000) (by omega) (by omega)
    rw [if_neg q, if_neg q9]
end C7
