/-! the twin: how ill a coat sits -/
set_option maxRecDepth 100000
def asks8 (tall v : Nat → Int32) (m c : Nat) : Nat → Int32
  | 0 => s8_over (v m) (v (18 + c))
  | 1 => s8_over (v (18 + c)) (v m)
  | 2 => s8_over (tall m) (v (12 + c))
  | 3 => s8_over (v (12 + c)) (tall m)
  | 4 => v (30 + c)
  | _ => v 37
/-- one step of the formula, on a stack -/
def rpn1 (q : Nat → Int32) (s a : Int32) (stk : List Int32) : List Int32 :=
  if s = 0 then a :: stk else if s = 1 then q a.toNatClampNeg :: stk
  else if s = 2 then (match stk with | x :: t => s8_truth (if x = 0 then 1 else 0) :: t | [] => [])
  else (match stk with | y :: x :: t => s8_done a x y :: t | _ => [])
def rpn (q S A : Nat → Int32) : Nat → List Int32
  | 0 => []
  | k + 1 => rpn1 q (S k) (A k) (rpn q S A k)
/-- how many lie on the stack -/
def dp8 (S : Nat → Int32) : Nat → Nat
  | 0 => 0
  | k + 1 => if S k = 0 ∨ S k = 1 then dp8 S k + 1 else if S k = 2 then dp8 S k else dp8 S k - 1
/-- the steps can be gone through -/
def okP8 (S A : Nat → Int32) (n : Nat) : Prop := n ≤ 320 ∧ (∀ k, k < n → (S k = 1 → vp_in (A k) 6) ∧ (S k = 0 ∨ S k = 1 → dp8 S k < 64) ∧ (S k = 2 → 1 ≤ dp8 S k) ∧ (S k ≠ 0 → S k ≠ 1 → S k ≠ 2 → 2 ≤ dp8 S k)) ∧ dp8 S n = 1
theorem dp8_le {S A : Nat → Int32} {n : Nat} (h : okP8 S A n) : ∀ k, k ≤ n → dp8 S k ≤ 64 := by
  intro k
  induction k with
  | zero => intro _; exact Nat.zero_le _
  | succ k ih =>
    intro hk
    have h1 := ih (by omega)
    have h2 := (h.2.1 k (by omega)).2.1
    show (if S k = 0 ∨ S k = 1 then dp8 S k + 1 else if S k = 2 then dp8 S k else dp8 S k - 1) ≤ 64
    split
    · rename_i q; have := h2 q; omega
    · split <;> omega
theorem rpn_len {q S A : Nat → Int32} {n : Nat} (h : okP8 S A n) : ∀ k, k ≤ n → (rpn q S A k).length = dp8 S k := by
  intro k
  induction k with
  | zero => intro _; rfl
  | succ k ih =>
    intro hk
    have h1 := ih (by omega)
    obtain ⟨-, -, h3, h4⟩ := h.2.1 k (by omega)
    show (rpn1 q (S k) (A k) (rpn q S A k)).length = (if S k = 0 ∨ S k = 1 then dp8 S k + 1 else if S k = 2 then dp8 S k else dp8 S k - 1)
    unfold rpn1
    by_cases e0 : S k = 0
    · rw [if_pos e0, if_pos (Or.inl e0), List.length_cons, h1]
    · rw [if_neg e0]
      by_cases e1 : S k = 1
      · rw [if_pos e1, if_pos (Or.inr e1), List.length_cons, h1]
      · have e01 : ¬ (S k = 0 ∨ S k = 1) := fun h => h.elim e0 e1
        rw [if_neg e1, if_neg e01]
        by_cases e2 : S k = 2
        · rw [if_pos e2, if_pos e2]
          have h5 := h3 e2
          match hr : rpn q S A k, h1 with
          | [], h1 => simp at h1; omega
          | x :: t, h1 => simpa using h1
        · rw [if_neg e2, if_neg e2]
          have h5 := h4 e0 e1 e2
          match hr : rpn q S A k, h1 with
          | [], h1 => simp at h1; omega
          | [x], h1 => simp at h1; omega
          | y :: x :: t, h1 =>
            simp at h1 ⊢
            omega
/-- the values lie in the row as on the stack -/
def onRow (row : Nat → Int32) (stk : List Int32) : Prop := ∀ i x, stk[i]? = some x → row (stk.length - 1 - i) = x
theorem onRow_push {row : Nat → Int32} {stk : List Int32} {y : Int32} (h : onRow row stk) : onRow (upd row stk.length y) (y :: stk) := by
  intro i x hi
  cases i with
  | zero =>
    simp at hi
    subst hi
    show upd row stk.length y ((y :: stk).length - 1 - 0) = y
    rw [List.length_cons, show stk.length + 1 - 1 - 0 = stk.length by omega, upd_s]
  | succ i =>
    have hi2 : stk[i]? = some x := by simpa using hi
    have hl := (List.getElem?_eq_some_iff.mp hi2).1
    rw [List.length_cons, show stk.length + 1 - 1 - (i + 1) = stk.length - 1 - i by omega, upd_n (by omega)]
    exact h i x hi2
theorem onRow_1 {row : Nat → Int32} {z y : Int32} {stk : List Int32} (h : onRow row (z :: stk)) : onRow (upd row stk.length y) (y :: stk) := by
  intro i x hi
  cases i with
  | zero =>
    simp at hi
    subst hi
    rw [List.length_cons, show stk.length + 1 - 1 - 0 = stk.length by omega, upd_s]
  | succ i =>
    have hi2 : stk[i]? = some x := by simpa using hi
    have hl := (List.getElem?_eq_some_iff.mp hi2).1
    have h9 := h (i + 1) x (by simpa using hi2)
    rw [List.length_cons, show stk.length + 1 - 1 - (i + 1) = stk.length - 1 - i by omega] at h9 ⊢
    rw [upd_n (by omega)]
    exact h9
theorem onRow_2 {row : Nat → Int32} {z w y : Int32} {stk : List Int32} (h : onRow row (z :: w :: stk)) : onRow (upd row stk.length y) (y :: stk) := by
  refine onRow_1 (z := w) (fun i x hi => ?_)
  have h9 := h (i + 1) x (by simpa using hi)
  rw [List.length_cons, show (w :: stk).length + 1 - 1 - (i + 1) = (w :: stk).length - 1 - i by omega] at h9
  exact h9
/-- how ill coat c sits on man m, by the vector v -/
def mis8 (hasF : Int32) (n : Nat) (S A tall v : Nat → Int32) (m c : Nat) : Int32 :=
  if hasF = 0 then s8_within (((((3 * s8_over (v m) (v (18 + c))) + s8_over (v (18 + c)) (v m)) + (2 * s8_over (tall m) (v (12 + c)))) + s8_over (v (12 + c)) (tall m)) + v (30 + c)) 999
  else s8_within ((rpn (asks8 tall v m c) S A n).headD 0) 999
abbrev misS (σ : S8) (v : Nat → Int32) (m c : Nat) : Int32 := mis8 (σ.1 25) (σ.1 18).toNatClampNeg (σ.2.1 13) (σ.2.1 14) (σ.2.1 34) v m c
/-- the formula in force can be gone through -/
def okF (σ : S8) : Prop := σ.1 25 ≠ 0 → ∃ n, σ.1 18 = nI n ∧ okP8 (σ.2.1 13) (σ.2.1 14) n
theorem cl1 (n : Nat) : nI (n + 1) + (-1) = nI n := pk_m1 n
theorem misLoop (d : Nat) (σ : S8) (v1 v2 : Int32) (n : Nat) (hn : σ.1 18 = nI n) (hP : okP8 (σ.2.1 13) (σ.2.1 14) n) :
    ∃ τ, kp [16] σ τ ∧ onRow (τ.2.1 16) (rpn (σ.2.1 26) (σ.2.1 13) (σ.2.1 14) n) ∧ ∀ r σ1, Rn8 mX8_misfitOf (d + 3) 181 [.int v1, .int v2, .int (nI (dp8 (σ.2.1 13) n)), .int (nI n)] (fun _ => []) τ r σ1 → Rn8 mX8_misfitOf (d + 3) 181 [.int v1, .int v2, .int (nI 0), .int (nI 0)] (fun _ => []) σ r σ1 := by
  obtain ⟨_, τ, ⟨h1, h2⟩, h3⟩ := iter8 (A := Unit) (fun k _ τ r σ1 => Rn8 mX8_misfitOf (d + 3) 181 [.int v1, .int v2, .int (nI (dp8 (σ.2.1 13) k)), .int (nI k)] (fun _ => []) τ r σ1)
    (fun k _ τ => kp [16] σ τ ∧ onRow (τ.2.1 16) (rpn (σ.2.1 26) (σ.2.1 13) (σ.2.1 14) k)) n (by
    rintro k ⟨⟩ τ hk ⟨q1, q2⟩
    have hn3 := hP.1
    obtain ⟨p1, p2, p3, p4⟩ := hP.2.1 k hk
    have hdl := dp8_le hP k (by omega)
    have hlen := rpn_len (q := σ.2.1 26) hP k (by omega)
    have e13 : τ.2.1 13 = σ.2.1 13 := q1.2.2 13 (by decide)
    have e14 : τ.2.1 14 = σ.2.1 14 := q1.2.2 14 (by decide)
    have e26 : τ.2.1 26 = σ.2.1 26 := q1.2.2 26 (by decide)
    have e18 : τ.1 18 = nI n := by rw [q1.1]; exact hn
    have hexit : ¬ τ.1 18 ≤ nI k := by rw [e18]; exact nI_ge hk (by omega)
    have hvk : vp_in (nI k) 320 := vin (by omega) (by decide)
    have ck : (nI k).toNatClampNeg = k := cl (by omega)
    by_cases e0 : σ.2.1 13 k = 0
    · have hd : dp8 (σ.2.1 13) (k + 1) = dp8 (σ.2.1 13) k + 1 := by
        show (if σ.2.1 13 k = 0 ∨ σ.2.1 13 k = 1 then _ else _) = _
        rw [if_pos (Or.inl e0)]
      have hlt := p2 (Or.inl e0)
      refine ⟨(), _, ⟨q1.up (j := 16) (by decide) (upd (τ.2.1 16) (dp8 (σ.2.1 13) k) (σ.2.1 14 k)), ?_⟩, fun r σ1 h => ?_⟩
      · show onRow (upA τ.2.1 16 _ 16) (rpn1 (σ.2.1 26) (σ.2.1 13 k) (σ.2.1 14 k) (rpn (σ.2.1 26) (σ.2.1 13) (σ.2.1 14) k))
        unfold rpn1
        rw [upA_s, if_pos e0, ← hlen]
        exact onRow_push q2
      · refine g8_misfitOf_181 ⟨fun q => absurd q hexit, fun _ => ⟨hvk, fun _ => ?_, fun q => absurd (by rw [ck, e13]; exact e0) q⟩⟩
        refine g8_misfitOf_211 ⟨hvk, fun q => absurd (by rw [ck, e13]; exact e0) q, fun _ => ⟨vin hlt (by decide), ?_⟩⟩
        rw [ck, cl (by omega), e14, nI_1, nI_1, ← hd]
        exact h
    by_cases e1 : σ.2.1 13 k = 1
    · have hd : dp8 (σ.2.1 13) (k + 1) = dp8 (σ.2.1 13) k + 1 := by
        show (if σ.2.1 13 k = 0 ∨ σ.2.1 13 k = 1 then _ else _) = _
        rw [if_pos (Or.inr e1)]
      have hlt := p2 (Or.inr e1)
      refine ⟨(), _, ⟨q1.up (j := 16) (by decide) (upd (τ.2.1 16) (dp8 (σ.2.1 13) k) (σ.2.1 26 (σ.2.1 14 k).toNatClampNeg)), ?_⟩, fun r σ1 h => ?_⟩
      · show onRow (upA τ.2.1 16 _ 16) (rpn1 (σ.2.1 26) (σ.2.1 13 k) (σ.2.1 14 k) (rpn (σ.2.1 26) (σ.2.1 13) (σ.2.1 14) k))
        unfold rpn1
        rw [upA_s, if_neg e0, if_pos e1, ← hlen]
        exact onRow_push q2
      · refine g8_misfitOf_181 ⟨fun q => absurd q hexit, fun _ => ⟨hvk, fun q => absurd (by rw [ck, e13] at q; exact q) e0, fun _ => ⟨fun q => absurd (by rw [ck, e13]; exact e1) q, fun _ => ?_⟩⟩⟩
        refine g8_misfitOf_211 ⟨hvk, fun _ => ⟨by rw [ck, e14]; exact p1 e1, vin hlt (by decide), ?_⟩, fun q => absurd (by rw [ck, e13] at q; exact q) e0⟩
        rw [ck, cl (by omega), e14, e26, nI_1, nI_1, ← hd]
        exact h
    by_cases e2 : σ.2.1 13 k = 2
    · have hd : dp8 (σ.2.1 13) (k + 1) = dp8 (σ.2.1 13) k := by
        show (if σ.2.1 13 k = 0 ∨ σ.2.1 13 k = 1 then _ else if σ.2.1 13 k = 2 then _ else _) = _
        rw [if_neg (fun h => h.elim e0 e1), if_pos e2]
      have hge := p3 e2
      obtain ⟨x, t, hxt⟩ : ∃ x t, rpn (σ.2.1 26) (σ.2.1 13) (σ.2.1 14) k = x :: t := by
        match hr : rpn (σ.2.1 26) (σ.2.1 13) (σ.2.1 14) k with
        | [] => rw [hr] at hlen; simp at hlen; omega
        | x :: t => exact ⟨x, t, rfl⟩
      rw [hxt] at hlen q2
      rw [List.length_cons] at hlen
      have hx : τ.2.1 16 t.length = x := by
        have := q2 0 x rfl
        rw [List.length_cons, show t.length + 1 - 1 - 0 = t.length by omega] at this
        exact this
      have ed : nI (dp8 (σ.2.1 13) k) - 1 = nI t.length := by rw [← hlen]; exact nI_pred t.length
      refine ⟨(), _, ⟨q1.up (j := 16) (by decide) (upd (τ.2.1 16) t.length (s8_truth (if x = 0 then 1 else 0))), ?_⟩, fun r σ1 h => ?_⟩
      · show onRow (upA τ.2.1 16 _ 16) (rpn1 (σ.2.1 26) (σ.2.1 13 k) (σ.2.1 14 k) (rpn (σ.2.1 26) (σ.2.1 13) (σ.2.1 14) k))
        unfold rpn1
        rw [upA_s, if_neg e0, if_neg e1, if_pos e2, hxt]
        exact onRow_1 q2
      · refine g8_misfitOf_181 ⟨fun q => absurd q hexit, fun _ => ⟨hvk, fun q => absurd (by rw [ck, e13] at q; exact q) e0, fun _ => ⟨fun _ => ⟨fun q => absurd (by rw [ck, e13]; exact e2) q, fun _ => ⟨by rw [ed]; exact vin (by omega) (by decide), ?_⟩⟩, fun q => absurd (by rw [ck, e13] at q; exact q) e1⟩⟩⟩
        rw [ed, cl (by omega), hx, nI_1, ← hd]
        exact h
    · have hd : dp8 (σ.2.1 13) (k + 1) = dp8 (σ.2.1 13) k - 1 := by
        show (if σ.2.1 13 k = 0 ∨ σ.2.1 13 k = 1 then _ else if σ.2.1 13 k = 2 then _ else _) = _
        rw [if_neg (fun h => h.elim e0 e1), if_neg e2]
      have hge := p4 e0 e1 e2
      obtain ⟨y, x, t, hxt⟩ : ∃ y x t, rpn (σ.2.1 26) (σ.2.1 13) (σ.2.1 14) k = y :: x :: t := by
        match hr : rpn (σ.2.1 26) (σ.2.1 13) (σ.2.1 14) k with
        | [] => rw [hr] at hlen; simp at hlen; omega
        | [x] => rw [hr] at hlen; simp at hlen; omega
        | y :: x :: t => exact ⟨y, x, t, rfl⟩
      rw [hxt] at hlen q2
      rw [List.length_cons, List.length_cons] at hlen
      have hy : τ.2.1 16 (t.length + 1) = y := by
        have := q2 0 y rfl
        rw [List.length_cons, List.length_cons, show t.length + 1 + 1 - 1 - 0 = t.length + 1 by omega] at this
        exact this
      have hx : τ.2.1 16 t.length = x := by
        have := q2 1 x rfl
        rw [List.length_cons, List.length_cons, show t.length + 1 + 1 - 1 - 1 = t.length by omega] at this
        exact this
      have ed : nI (dp8 (σ.2.1 13) k) + (-1) = nI (t.length + 1) := by rw [← hlen]; exact cl1 (t.length + 1)
      have ed2 : nI (t.length + 1) - 1 = nI t.length := nI_pred t.length
      refine ⟨(), _, ⟨q1.up (j := 16) (by decide) (upd (τ.2.1 16) t.length (s8_done (σ.2.1 14 k) x y)), ?_⟩, fun r σ1 h => ?_⟩
      · show onRow (upA τ.2.1 16 _ 16) (rpn1 (σ.2.1 26) (σ.2.1 13 k) (σ.2.1 14 k) (rpn (σ.2.1 26) (σ.2.1 13) (σ.2.1 14) k))
        unfold rpn1
        rw [upA_s, if_neg e0, if_neg e1, if_neg e2, hxt]
        exact onRow_2 q2
      · refine g8_misfitOf_181 ⟨fun q => absurd q hexit, fun _ => ⟨hvk, fun q => absurd (by rw [ck, e13] at q; exact q) e0, fun _ => ⟨fun _ => ⟨fun _ => ⟨by rw [ed, ed2]; exact vin (by omega) (by decide), by rw [ed]; exact vin (by omega) (by decide), ?_⟩, fun q => absurd (by rw [ck, e13] at q; exact q) e2⟩, fun q => absurd (by rw [ck, e13] at q; exact q) e1⟩⟩⟩
        rw [ed, ed2, ck, cl (by omega), cl (by omega), hx, hy, e14, nI_1]
        rw [show dp8 (σ.2.1 13) (k + 1) = t.length + 1 by omega] at h
        exact h) 0 () σ (Nat.zero_le _) ⟨kp.rf, fun i x h => by simp [rpn] at h⟩
  exact ⟨τ, h1, h2, h3⟩
theorem misfitT8 (d : Nat) (σ : S8) (m c : Nat) (hm : m < 6) (hc : c < 6) (hF : okF σ) : ∃ σ1, Tw8 mX8_misfitOf (d + 3) [.int (nI m), .int (nI c)] σ (some (.int (misS σ (σ.2.1 60) m c))) σ1 ∧ kp [16, 26] σ σ1 := by
  have cm : (nI m).toNatClampNeg = m := cl (by omega)
  have c18 : ((18 : Int32) + nI c).toNatClampNeg = 18 + c := by rw [n18]; exact cl (by omega)
  have c12 : ((12 : Int32) + nI c).toNatClampNeg = 12 + c := by rw [n12]; exact cl (by omega)
  have c30 : ((30 : Int32) + nI c).toNatClampNeg = 30 + c := by rw [n30]; exact cl (by omega)
  have b1 : vp_in (nI m) 39 := vin (by omega) (by decide)
  have b2 : vp_in ((18 : Int32) + nI c) 39 := by rw [n18]; exact vin (by omega) (by decide)
  have b3 : vp_in (nI m) 6 := vin hm (by decide)
  have b4 : vp_in ((12 : Int32) + nI c) 39 := by rw [n12]; exact vin (by omega) (by decide)
  have b5 : vp_in ((30 : Int32) + nI c) 39 := by rw [n30]; exact vin (by omega) (by decide)
  by_cases hf : σ.1 25 = 0
  · refine ⟨_, Tw8.ofR [.int (nI m), .int (nI c), U_, U_] (by decide) (fun _ => rfl) (fun _ _ => Nat.le_of_ble_eq_true rfl) (g8_misfitOf_0 ⟨b1, b2, b3, b4, b5, fun q => absurd hf q, fun _ => ⟨?_, rfl⟩⟩), ?_⟩
    · unfold misS mis8
      rw [if_pos hf, cm, c18, c12, c30]
    · exact (kp.rf (A := [16, 26])).up (by decide) _
  · obtain ⟨n, hn, hP⟩ := hF hf
    have hn3 := hP.1
    obtain ⟨τ, k1, k2, k3⟩ := misLoop d (σ.1, upA σ.2.1 26 (upd (upd (upd (upd (upd (upd (σ.2.1 26) 0 (s8_over (σ.2.1 60 m) (σ.2.1 60 (18 + c)))) 1 (s8_over (σ.2.1 60 (18 + c)) (σ.2.1 60 m))) 2 (s8_over (σ.2.1 34 m) (σ.2.1 60 (12 + c)))) 3 (s8_over (σ.2.1 60 (12 + c)) (σ.2.1 34 m))) 4 (σ.2.1 60 (30 + c))) 5 (σ.2.1 60 37)), σ.2.2.1, σ.2.2.2) (nI m) (nI c) n hn hP
    have hrow : ∀ S A k, (∀ j, j < k → S j = 1 → vp_in (A j) 6) → rpn (upA σ.2.1 26 (upd (upd (upd (upd (upd (upd (σ.2.1 26) 0 (s8_over (σ.2.1 60 m) (σ.2.1 60 (18 + c)))) 1 (s8_over (σ.2.1 60 (18 + c)) (σ.2.1 60 m))) 2 (s8_over (σ.2.1 34 m) (σ.2.1 60 (12 + c)))) 3 (s8_over (σ.2.1 60 (12 + c)) (σ.2.1 34 m))) 4 (σ.2.1 60 (30 + c))) 5 (σ.2.1 60 37)) 26) S A k = rpn (asks8 (σ.2.1 34) (σ.2.1 60) m c) S A k := by
      intro S A k
      rw [upA_s]
      induction k with
      | zero => intro _; rfl
      | succ k ih =>
        intro hs
        show rpn1 _ (S k) (A k) (rpn _ S A k) = rpn1 _ (S k) (A k) (rpn _ S A k)
        rw [ih (fun j hj => hs j (by omega))]
        unfold rpn1
        by_cases e0 : S k = 0
        · rw [if_pos e0, if_pos e0]
        · rw [if_neg e0, if_neg e0]
          by_cases e1 : S k = 1
          · rw [if_pos e1, if_pos e1]
            obtain ⟨j, hj, ej⟩ := vp_in_of (hs k (by omega) e1) (by decide)
            rw [ej, cl (by omega)]
            match j, hj with
            | 0, _ => rfl
            | 1, _ => rfl
            | 2, _ => rfl
            | 3, _ => rfl
            | 4, _ => rfl
            | 5, _ => rfl
          · rw [if_neg e1, if_neg e1]
    have hlen := rpn_len (q := asks8 (σ.2.1 34) (σ.2.1 60) m c) hP n (Nat.le_refl _)
    rw [hP.2.2] at hlen
    have k2' : onRow (τ.2.1 16) (rpn (asks8 (σ.2.1 34) (σ.2.1 60) m c) (σ.2.1 13) (σ.2.1 14) n) := by
      have := k2
      have e := hrow (σ.2.1 13) (σ.2.1 14) n (fun j hj => (hP.2.1 j hj).1)
      rw [← e]
      exact this
    obtain ⟨x, hx⟩ : ∃ x, rpn (asks8 (σ.2.1 34) (σ.2.1 60) m c) (σ.2.1 13) (σ.2.1 14) n = [x] := by
      match hr : rpn (asks8 (σ.2.1 34) (σ.2.1 60) m c) (σ.2.1 13) (σ.2.1 14) n with
      | [] => rw [hr] at hlen; simp at hlen
      | [x] => exact ⟨x, rfl⟩
      | x :: y :: t => rw [hr] at hlen; simp at hlen
    have h0 : τ.2.1 16 0 = x := by
      rw [hx] at k2'
      exact k2' 0 x rfl
    have hr : misS σ (σ.2.1 60) m c = s8_within (τ.2.1 16 0) 999 := by
      unfold misS mis8
      rw [if_neg hf, hn, cl (by omega), hx, h0]
      rfl
    refine ⟨τ, Tw8.ofR [.int (nI m), .int (nI c), U_, U_] (by decide) (fun _ => rfl) (fun _ _ => Nat.le_of_ble_eq_true rfl) (g8_misfitOf_0 ⟨b1, b2, b3, b4, b5, fun _ => ?_, fun q => absurd q hf⟩), ?_⟩
    · rw [cm, c18, c12, c30, hr]
      refine k3 _ _ ?_
      refine g8_misfitOf_181 ⟨fun _ => ⟨rfl, rfl⟩, fun q => absurd ?_ q⟩
      rw [k1.1]
      show σ.1 18 ≤ nI n
      rw [hn]
      exact nI_le (Nat.le_refl _) (by omega)
    · refine kp.tr ?_ (k1.mo (by decide))
      exact (kp.rf (A := [16, 26])).up (by decide) _
