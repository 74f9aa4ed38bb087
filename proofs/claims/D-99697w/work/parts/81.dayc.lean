/-! the component's states: who wears what, who fits, a day -/
set_option maxRecDepth 100000
/-- beyond the men nobody wears anything -/
def nob (v : Nat → Int32) (nm : Nat) : Prop := ∀ m, nm ≤ m → m < 6 → v (6 + m) = -1
/-- no coat is worn by two -/
def unq (v : Nat → Int32) (nm : Nat) : Prop := ∀ m o, m < nm → o < nm → 0 ≤ v (6 + m) → v (6 + m) = v (6 + o) → m = o
theorem set8_ext {f g : Nat → Bool} : ∀ {n : Nat}, (∀ k, k < n → f k = g k) → set8 f n = set8 g n := by
  intro n
  induction n with
  | zero => intro _; rfl
  | succ n ih =>
    intro h
    rw [← set8_s, ← set8_s, ih (fun k hk => h k (by omega)), h n (by omega)]
theorem or_f (a : Int32) (k : Nat) : a ||| (bi false <<< (nI k &&& 31)) = a := by
  have e : (bi false : Int32) <<< (nI k &&& 31) = 0 := by
    show (0 : Int32) <<< (nI k &&& 31) = 0
    apply Int32.toBitVec_inj.mp
    rw [Int32.toBitVec_shiftLeft]
    show BitVec.shiftLeft 0#32 _ = _
    simp
  rw [e]
  simp
theorem set8_more {f : Nat → Bool} {n N : Nat} (h : n ≤ N) (hf : ∀ k, n ≤ k → k < N → f k = false) : set8 f N = set8 f n := by
  induction N with
  | zero => have : n = 0 := by omega
            subst this; rfl
  | succ N ih =>
    by_cases e : n = N + 1
    · subst e; rfl
    · rw [← set8_s, hf N (by omega) (by omega), or_f]
      exact ih (by omega) (fun k h1 h2 => hf k h1 (by omega))
theorem dresCn (d : Nat) {ρ : Rho} {E : Hp → Prop} {A : Nat → Nat} {σ : Sg} {nm : Nat} (h6 : nm ≤ 6) (hn : nob (stV σ 1) nm) : Tv ρ E A mX2_dressed (d + 1) 0 0 [.ref (A 1)] σ (some (.int (wearers8 (stV σ 1) nm))) σ := by
  obtain ⟨a, τ, ⟨h1, h2⟩, h3⟩ := iterC (T := Int32) (fun k a τ r σ1 => Rv ρ E A mX2_dressed (d + 1) 0 0 4 [.ref (A 1), .int a, .int (nI k)] [] τ r σ1) (fun k a τ => a = wearers8 (stV σ 1) k ∧ τ = σ) 6 (by
    rintro k a τ hk ⟨rfl, rfl⟩
    have e : wearers8 (stV τ 1) k ||| (bi (decide (0 ≤ stV τ 1 (6 + k))) <<< (nI k &&& 31)) = wearers8 (stV τ 1) (k + 1) := set8_s _ k
    by_cases hw : stV τ 1 (6 + k) < 0
    · rw [decide_eq_false (show ¬ 0 ≤ stV τ 1 (6 + k) from fun q => i32_nlt.mpr q hw), or_f] at e
      refine ⟨_, _, ⟨rfl, rfl⟩, fun r σ1 h => ?_⟩
      refine gc_X2_dressedn_4 ⟨fun q => absurd q (nI_ge (b := 6) hk (by decide)), fun _ => ⟨vin hk (by decide), fun _ => ?_, fun q => absurd (by rw [cl (by omega), rdn1 hk]; exact hw) q⟩⟩
      rw [nI_1, e]
      exact h
    · rw [decide_eq_true (i32_nlt.mp hw)] at e
      refine ⟨_, _, ⟨rfl, rfl⟩, fun r σ1 h => ?_⟩
      refine gc_X2_dressedn_4 ⟨fun q => absurd q (nI_ge (b := 6) hk (by decide)), fun _ => ⟨vin hk (by decide), fun q => absurd (by rw [cl (by omega), rdn1 hk] at q; exact q) hw, fun _ => ?_⟩⟩
      rw [nI_1]
      rw [← e] at h
      exact h) 0 0 σ (Nat.zero_le _) ⟨rfl, rfl⟩
  subst h1; subst h2
  have e6 : wearers8 (stV τ 1) 6 = wearers8 (stV τ 1) nm := set8_more h6 (fun k h1 h2 => by
    rw [hn k h1 h2]
    rfl)
  rw [← e6]
  exact Tv.of [.ref (A 1), U_, U_] (by decide) rfl (fun _ => Nat.le_of_ble_eq_true rfl) rfl (gc_X2_dressedn_0 (h3 _ _ (gc_X2_dressedn_4 ⟨fun _ => ⟨rfl, rfl⟩, fun q => absurd (by decide) q⟩)))
theorem dresCt (d : Nat) {ρ : Rho} {E : Hp → Prop} {A : Nat → Nat} {σ : Sg} {nm : Nat} (h6 : nm ≤ 6) (hn : nob (stV σ 8) nm) : Tv ρ E A mX2_dressed (d + 1) 0 0 [.ref (A 8)] σ (some (.int (wearers8 (stV σ 8) nm))) σ := by
  obtain ⟨a, τ, ⟨h1, h2⟩, h3⟩ := iterC (T := Int32) (fun k a τ r σ1 => Rv ρ E A mX2_dressed (d + 1) 0 0 4 [.ref (A 8), .int a, .int (nI k)] [] τ r σ1) (fun k a τ => a = wearers8 (stV σ 8) k ∧ τ = σ) 6 (by
    rintro k a τ hk ⟨rfl, rfl⟩
    have e : wearers8 (stV τ 8) k ||| (bi (decide (0 ≤ stV τ 8 (6 + k))) <<< (nI k &&& 31)) = wearers8 (stV τ 8) (k + 1) := set8_s _ k
    by_cases hw : stV τ 8 (6 + k) < 0
    · rw [decide_eq_false (show ¬ 0 ≤ stV τ 8 (6 + k) from fun q => i32_nlt.mpr q hw), or_f] at e
      refine ⟨_, _, ⟨rfl, rfl⟩, fun r σ1 h => ?_⟩
      refine gc_X2_dressedt_4 ⟨fun q => absurd q (nI_ge (b := 6) hk (by decide)), fun _ => ⟨vin hk (by decide), fun _ => ?_, fun q => absurd (by rw [cl (by omega), rdt1 hk]; exact hw) q⟩⟩
      rw [nI_1, e]
      exact h
    · rw [decide_eq_true (i32_nlt.mp hw)] at e
      refine ⟨_, _, ⟨rfl, rfl⟩, fun r σ1 h => ?_⟩
      refine gc_X2_dressedt_4 ⟨fun q => absurd q (nI_ge (b := 6) hk (by decide)), fun _ => ⟨vin hk (by decide), fun q => absurd (by rw [cl (by omega), rdt1 hk] at q; exact q) hw, fun _ => ?_⟩⟩
      rw [nI_1]
      rw [← e] at h
      exact h) 0 0 σ (Nat.zero_le _) ⟨rfl, rfl⟩
  subst h1; subst h2
  have e6 : wearers8 (stV τ 8) 6 = wearers8 (stV τ 8) nm := set8_more h6 (fun k h1 h2 => by
    rw [hn k h1 h2]
    rfl)
  rw [← e6]
  exact Tv.of [.ref (A 8), U_, U_] (by decide) rfl (fun _ => Nat.le_of_ble_eq_true rfl) rfl (gc_X2_dressedt_0 (h3 _ _ (gc_X2_dressedt_4 ⟨fun _ => ⟨rfl, rfl⟩, fun q => absurd (by decide) q⟩)))
/-- the last wearer is the only one -/
theorem wearer_of {v : Nat → Int32} {c : Int32} {nm m : Nat} (hu : ∀ o, o < nm → v (6 + o) = c → o = m) (hm : m < nm) (hc : v (6 + m) = c) : wearer8 v c nm = nI m := by
  have h : ∀ n, n ≤ nm → wearer8 v c n = if m < n then nI m else -1 := by
    intro n
    induction n with
    | zero => intro _; rfl
    | succ n ih =>
      intro hn
      show (if v (6 + n) = c then nI n else wearer8 v c n) = _
      by_cases e : v (6 + n) = c
      · have := hu n (by omega) e
        subst this
        rw [if_pos e, if_pos (by omega)]
      · rw [if_neg e, ih (by omega)]
        have hne : m ≠ n := fun q => e (by rw [← q]; exact hc)
        by_cases h2 : m < n
        · rw [if_pos h2, if_pos (by omega)]
        · rw [if_neg h2, if_neg (by omega)]
  rw [h nm (Nat.le_refl _), if_pos hm]
theorem wearer_no {v : Nat → Int32} {c : Int32} {nm : Nat} (h : ∀ o, o < nm → v (6 + o) ≠ c) : wearer8 v c nm = -1 := by
  induction nm with
  | zero => rfl
  | succ n ih =>
    show (if v (6 + n) = c then nI n else wearer8 v c n) = _
    rw [if_neg (h n (by omega)), ih (fun o ho => h o (by omega))]
theorem first_or (P : Nat → Prop) (n : Nat) : (∃ m, m < n ∧ P m ∧ ∀ o, o < m → ¬ P o) ∨ ∀ o, o < n → ¬ P o := by
  induction n with
  | zero => exact Or.inr (fun o ho => absurd ho (by omega))
  | succ n ih =>
    rcases ih with ⟨m, h1, h2, h3⟩ | h
    · exact Or.inl ⟨m, by omega, h2, h3⟩
    · by_cases e : P n
      · exact Or.inl ⟨n, by omega, e, fun o ho => h o ho⟩
      · refine Or.inr (fun o ho => ?_)
        by_cases q : o = n
        · rw [q]; exact e
        · exact h o (by omega)
theorem wearCn (d : Nat) {ρ : Rho} {E : Hp → Prop} {A : Nat → Nat} {σ : Sg} {nm c : Nat} (h6 : nm ≤ 6) (hc6 : c < 6) (hn : nob (stV σ 1) nm) (hu : unq (stV σ 1) nm) : Tv ρ E A mX2_wearer (d + 1) 0 0 [.ref (A 1), .int (nI c)] σ (some (.int (wearer8 (stV σ 1) (nI c) nm))) σ := by
  have hne : ∀ o, nm ≤ o → o < 6 → stV σ 1 (6 + o) ≠ nI c := fun o h1 h2 q => by
    rw [hn o h1 h2] at q
    exact absurd (show (-1 : Int32) < 0 by decide) (by rw [q]; exact nI_nneg (by omega))
  refine Tv.of [.ref (A 1), .int (nI c), U_] (by decide) rfl (fun _ => Nat.le_of_ble_eq_true rfl) rfl (gc_X2_wearern_0 ?_)
  rcases iterCe (T := Unit) (fun k _ τ r σ1 => Rv ρ E A mX2_wearer (d + 1) 0 0 2 [.ref (A 1), .int (nI c), .int (nI k)] [] τ r σ1) (fun k _ τ => (∀ o, o < k → stV σ 1 (6 + o) ≠ nI c) ∧ τ = σ) (fun r σ1 => r = some (.int (wearer8 (stV σ 1) (nI c) nm)) ∧ σ1 = σ) 6 (by
    rintro k ⟨⟩ τ hk ⟨hno, rfl⟩
    by_cases e : stV τ 1 (6 + k) = nI c
    · have hk2 : k < nm := by
        by_cases q : k < nm
        · exact q
        · exact absurd e (hne k (by omega) hk)
      refine Or.inr ⟨_, _, gc_X2_wearern_2 ⟨fun q => absurd q (nI_ge (b := 6) hk (by decide)), fun _ => ⟨vin hk (by decide), fun q => absurd (by rw [cl (by omega), rdn1 hk]; exact e) q, fun _ => ⟨rfl, rfl⟩⟩⟩, ?_, rfl⟩
      rw [wearer_of (m := k) (fun o ho he => (hu k o hk2 ho (by rw [e]; exact nI_pos' (by omega)) (by rw [e, he])).symm) hk2 e]
    · refine Or.inl ⟨(), τ, ⟨lt_s hno e, rfl⟩, fun r σ1 h => ?_⟩
      refine gc_X2_wearern_2 ⟨fun q => absurd q (nI_ge (b := 6) hk (by decide)), fun _ => ⟨vin hk (by decide), fun _ => ?_, fun q => absurd (by rw [cl (by omega), rdn1 hk] at q; exact q) e⟩⟩
      rw [nI_1]
      exact h) 0 () σ (Nat.zero_le _) ⟨fun o ho => absurd ho (by omega), rfl⟩ with ⟨_, τ, ⟨h1, rfl⟩, h3⟩ | ⟨r, σ1, h1, rfl, rfl⟩
  · refine h3 _ _ (gc_X2_wearern_2 ⟨fun _ => ⟨?_, rfl⟩, fun q => absurd (by decide) q⟩)
    rw [wearer_no (fun o ho => h1 o (by omega))]
  · exact h1
theorem fittCn (d : Nat) {ρ : Rho} {E : Hp → Prop} {A : Nat → Nat} {σ : Sg} (hT : tlV ρ) (hr : rgV (stV σ 1) (ρ.1 0) (ρ.1 1)) (hW : okW (stV σ 1) (ρ.1 0) (ρ.1 1)) : ∃ σ1, Tv ρ E A mX2_fitted (d + 303) 0 0 [.ref (A 1), .ref (ρ.1 2)] σ (some (.int (set8 (ownE (eC ρ) (stV σ 1)) (ρ.1 0)))) σ1 ∧ kc [30] σ σ1 := by
  have h6 := hT.1
  obtain ⟨a, τ, ⟨h1, h2⟩, h3⟩ := iterC (T := Int32) (fun k a τ r σ1 => Rv ρ E A mX2_fitted (d + 303) 0 0 4 [.ref (A 1), .ref (ρ.1 2), .int a, .int (nI k)] [] τ r σ1) (fun k a τ => a = set8 (ownE (eC ρ) (stV σ 1)) k ∧ kc [30] σ τ) (ρ.1 0) (by
    rintro k a τ hk ⟨rfl, q1⟩
    have ev : stV τ 1 = stV σ 1 := stV_kc q1 (by decide)
    obtain ⟨τ1, q2, q3⟩ := ownCn d (E := E) (A := A) (σ := τ) (m := k) (w := stV σ 1 (6 + k)) hT hk (by rw [ev]; exact hr) ev (hW k hk)
    have ew : (if stV σ 1 (6 + k) < 0 then false else fitE (eC ρ) (stV σ 1) k (stV σ 1 (6 + k)).toNatClampNeg) = ownE (eC ρ) (stV σ 1) k := rfl
    rw [ew] at q2
    have ck : (nI k).toNatClampNeg = k := cl (by omega)
    refine ⟨_, τ1, ⟨rfl, q1.tr q3⟩, fun r σ1 h => ?_⟩
    refine gc_X2_fittedn_4 ⟨fun q => absurd q (nI_ge hk (by omega)), fun _ => ⟨vin (by omega) (by decide), _, _, by rw [ck, rdn1 (by omega), ev]; exact q2, fun hb => ?_, fun hb => ?_⟩⟩
    · have : ownE (eC ρ) (stV σ 1) k = false := (bi_0 _).mp hb
      rw [nI_1]
      rw [← set8_s, this, or_f] at h
      exact h
    · have : ownE (eC ρ) (stV σ 1) k = true := by
        cases hq : ownE (eC ρ) (stV σ 1) k with
        | false => rw [hq] at hb; exact absurd rfl hb
        | true => rfl
      rw [nI_1]
      rw [← set8_s, this] at h
      exact h) 0 0 σ (Nat.zero_le _) ⟨rfl, kc.rf⟩
  subst h1
  exact ⟨τ, Tv.of [.ref (A 1), .ref (ρ.1 2), U_, U_] (by decide) rfl (fun _ => Nat.le_of_ble_eq_true rfl) h2.1 (gc_X2_fittedn_0 (h3 _ _ (gc_X2_fittedn_4 ⟨fun _ => ⟨rfl, rfl⟩, fun q => absurd (nI_le (Nat.le_refl _) (by omega)) q⟩))), h2⟩
theorem wearCt (d : Nat) {ρ : Rho} {E : Hp → Prop} {A : Nat → Nat} {σ : Sg} {nm c : Nat} (h6 : nm ≤ 6) (hc6 : c < 6) (hn : nob (stV σ 8) nm) (hu : unq (stV σ 8) nm) : Tv ρ E A mX2_wearer (d + 1) 0 0 [.ref (A 8), .int (nI c)] σ (some (.int (wearer8 (stV σ 8) (nI c) nm))) σ := by
  have hne : ∀ o, nm ≤ o → o < 6 → stV σ 8 (6 + o) ≠ nI c := fun o h1 h2 q => by
    rw [hn o h1 h2] at q
    exact absurd (show (-1 : Int32) < 0 by decide) (by rw [q]; exact nI_nneg (by omega))
  refine Tv.of [.ref (A 8), .int (nI c), U_] (by decide) rfl (fun _ => Nat.le_of_ble_eq_true rfl) rfl (gc_X2_wearert_0 ?_)
  rcases iterCe (T := Unit) (fun k _ τ r σ1 => Rv ρ E A mX2_wearer (d + 1) 0 0 2 [.ref (A 8), .int (nI c), .int (nI k)] [] τ r σ1) (fun k _ τ => (∀ o, o < k → stV σ 8 (6 + o) ≠ nI c) ∧ τ = σ) (fun r σ1 => r = some (.int (wearer8 (stV σ 8) (nI c) nm)) ∧ σ1 = σ) 6 (by
    rintro k ⟨⟩ τ hk ⟨hno, rfl⟩
    by_cases e : stV τ 8 (6 + k) = nI c
    · have hk2 : k < nm := by
        by_cases q : k < nm
        · exact q
        · exact absurd e (hne k (by omega) hk)
      refine Or.inr ⟨_, _, gc_X2_wearert_2 ⟨fun q => absurd q (nI_ge (b := 6) hk (by decide)), fun _ => ⟨vin hk (by decide), fun q => absurd (by rw [cl (by omega), rdt1 hk]; exact e) q, fun _ => ⟨rfl, rfl⟩⟩⟩, ?_, rfl⟩
      rw [wearer_of (m := k) (fun o ho he => (hu k o hk2 ho (by rw [e]; exact nI_pos' (by omega)) (by rw [e, he])).symm) hk2 e]
    · refine Or.inl ⟨(), τ, ⟨lt_s hno e, rfl⟩, fun r σ1 h => ?_⟩
      refine gc_X2_wearert_2 ⟨fun q => absurd q (nI_ge (b := 6) hk (by decide)), fun _ => ⟨vin hk (by decide), fun _ => ?_, fun q => absurd (by rw [cl (by omega), rdt1 hk] at q; exact q) e⟩⟩
      rw [nI_1]
      exact h) 0 () σ (Nat.zero_le _) ⟨fun o ho => absurd ho (by omega), rfl⟩ with ⟨_, τ, ⟨h1, rfl⟩, h3⟩ | ⟨r, σ1, h1, rfl, rfl⟩
  · refine h3 _ _ (gc_X2_wearert_2 ⟨fun _ => ⟨?_, rfl⟩, fun q => absurd (by decide) q⟩)
    rw [wearer_no (fun o ho => h1 o (by omega))]
  · exact h1
theorem fittCt (d : Nat) {ρ : Rho} {E : Hp → Prop} {A : Nat → Nat} {σ : Sg} (hT : tlV ρ) (hr : rgV (stV σ 8) (ρ.1 0) (ρ.1 1)) (hW : okW (stV σ 8) (ρ.1 0) (ρ.1 1)) : ∃ σ1, Tv ρ E A mX2_fitted (d + 303) 0 0 [.ref (A 8), .ref (ρ.1 2)] σ (some (.int (set8 (ownE (eC ρ) (stV σ 8)) (ρ.1 0)))) σ1 ∧ kc [30] σ σ1 := by
  have h6 := hT.1
  obtain ⟨a, τ, ⟨h1, h2⟩, h3⟩ := iterC (T := Int32) (fun k a τ r σ1 => Rv ρ E A mX2_fitted (d + 303) 0 0 4 [.ref (A 8), .ref (ρ.1 2), .int a, .int (nI k)] [] τ r σ1) (fun k a τ => a = set8 (ownE (eC ρ) (stV σ 8)) k ∧ kc [30] σ τ) (ρ.1 0) (by
    rintro k a τ hk ⟨rfl, q1⟩
    have ev : stV τ 8 = stV σ 8 := stV_kc q1 (by decide)
    obtain ⟨τ1, q2, q3⟩ := ownCt d (E := E) (A := A) (σ := τ) (m := k) (w := stV σ 8 (6 + k)) hT hk (by rw [ev]; exact hr) ev (hW k hk)
    have ew : (if stV σ 8 (6 + k) < 0 then false else fitE (eC ρ) (stV σ 8) k (stV σ 8 (6 + k)).toNatClampNeg) = ownE (eC ρ) (stV σ 8) k := rfl
    rw [ew] at q2
    have ck : (nI k).toNatClampNeg = k := cl (by omega)
    refine ⟨_, τ1, ⟨rfl, q1.tr q3⟩, fun r σ1 h => ?_⟩
    refine gc_X2_fittedt_4 ⟨fun q => absurd q (nI_ge hk (by omega)), fun _ => ⟨vin (by omega) (by decide), _, _, by rw [ck, rdt1 (by omega), ev]; exact q2, fun hb => ?_, fun hb => ?_⟩⟩
    · have : ownE (eC ρ) (stV σ 8) k = false := (bi_0 _).mp hb
      rw [nI_1]
      rw [← set8_s, this, or_f] at h
      exact h
    · have : ownE (eC ρ) (stV σ 8) k = true := by
        cases hq : ownE (eC ρ) (stV σ 8) k with
        | false => rw [hq] at hb; exact absurd rfl hb
        | true => rfl
      rw [nI_1]
      rw [← set8_s, this] at h
      exact h) 0 0 σ (Nat.zero_le _) ⟨rfl, kc.rf⟩
  subst h1
  exact ⟨τ, Tv.of [.ref (A 8), .ref (ρ.1 2), U_, U_] (by decide) rfl (fun _ => Nat.le_of_ble_eq_true rfl) h2.1 (gc_X2_fittedt_0 (h3 _ _ (gc_X2_fittedt_4 ⟨fun _ => ⟨rfl, rfl⟩, fun q => absurd (nI_le (Nat.le_refl _) (by omega)) q⟩))), h2⟩
