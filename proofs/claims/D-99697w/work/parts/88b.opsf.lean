/-! the component: days that would be -/
set_option maxRecDepth 100000
section C4
variable {ρ : Rho} {E : Hp → Prop} {A : Nat → Nat} {σ : Sg}
abbrev grC (ρ : Rho) : Nat → Int32 := fun m => mnI ρ m 3
/-- then, made as now, is as sound -/
theorem okThen {σ1 : Sg} (hT : tlV ρ) (hN : okNow ρ (stV σ 1)) (h : ∀ j, j < 39 → stV σ1 8 j = stV σ 1 j) : okNow ρ (stV σ1 8) :=
  ⟨rgV_cg (agv.of fun j hj => (h j hj).symm) hT.1 hT.2.1 hN.1, okW_cg (agv.of fun j hj => (h j hj).symm) hT.1 hN.2.1, nob_of (fun j hj => (h j hj).symm) hN.2.2.1, unq_cg (agv.of fun j hj => (h j hj).symm) hT.1 hN.2.2.2⟩
theorem willCM (d : Nat) (m n what : Int32) (hT : tlV ρ) (hG : okG3 ρ) (hN : okNow ρ (stV σ 1)) :
    ∃ σ1, Tv ρ E A mX0_will (d + 306) 0 0 [.ref (A 0), .int m, .int n, .int what] σ (some (.int (if idx m (ρ.1 0) && (decide (¬ s8_isIn n 0 60 = 0) && decide (¬ s8_isIn what 0 1 = 0)) then goV (eC ρ) (grC ρ) (rgI ρ 12) what (ρ.1 0) (ρ.1 1) (stV σ 1) n.toNatClampNeg (6 + m.toNatClampNeg) else -2))) σ1 ∧ kc dplt σ σ1 := by
  have h6 := hT.1
  have h6c := hT.2.1
  have q0 := isManC (d + 302) (E := E) (A := A) (σ := σ) m h6
  have go : ∀ {r σ1}, σ1.2 = σ.2 → _ → Tv ρ E A mX0_will (d + 306) 0 0 [.ref (A 0), .int m, .int n, .int what] σ r σ1 := fun h2 h => Tv.of [.ref (A 0), .int m, .int n, .int what, U_, U_] (by decide) rfl (fun _ => Nat.le_of_ble_eq_true rfl) h2 (gc_X0_will_0 ⟨_, _, q0, h⟩)
  cases h1 : idx m (ρ.1 0) with
  | false => exact ⟨σ, go rfl ⟨fun _ => ⟨rfl, rfl⟩, fun q => absurd (bi_f h1) q⟩, kc.rf⟩
  | true =>
  by_cases h2 : s8_isIn n 0 60 = 0
  · rw [decide_eq_false (fun q => q h2)]
    exact ⟨σ, go rfl ⟨fun q => absurd q (bi_t h1), fun _ => ⟨fun _ => ⟨rfl, rfl⟩, fun q => absurd h2 q⟩⟩, kc.rf⟩
  by_cases h3 : s8_isIn what 0 1 = 0
  · rw [decide_eq_true h2, decide_eq_false (fun q => q h3)]
    exact ⟨σ, go rfl ⟨fun q => absurd q (bi_t h1), fun _ => ⟨fun q => absurd q h2, fun _ => ⟨fun q => absurd h3 q, fun _ => ⟨rfl, rfl⟩⟩⟩⟩, kc.rf⟩
  rw [decide_eq_true h2, decide_eq_true h3]
  obtain ⟨m', hm, em⟩ := idx_of h1 (by omega)
  obtain ⟨n', hn, en⟩ := isIn_n (N := 60) (by decide) h2
  have em' : m.toNatClampNeg = m' := by rw [em]; exact cl (by omega)
  have en' : n.toNatClampNeg = n' := by rw [en]; exact cl (by omega)
  rw [em', en', if_pos (by decide : (true && (true && true)) = true)]
  obtain ⟨σ0, o1, o2, o3⟩ := ofC (d + 304) (ρ := ρ) (E := E) (A := A) (σ := σ)
  have hO := okThen hT hN o3
  have rg := fun k => goV_rg (ρ := ρ) (e := eC ρ) (g := grC ρ) (r := rgI ρ 12) (what := what) h6 h6c hG hO.1 hO.2.2.1 hO.2.2.2 k
  have okk := fun k => goV_ok (e := eC ρ) (grows := grC ρ) (rain := rgI ρ 12) (what := what) h6 h6c hO.2.1 k
  obtain ⟨_, τ, ⟨a1, a2⟩, a3⟩ := iterC (T := Unit) (fun k _ τ r σ1 => Rv ρ E A mX0_will (d + 306) 0 0 44 [.ref (A 0), .int m, .int n, .int what, .int (nI k), U_] [] τ r σ1) (fun k _ τ => kc dplt σ τ ∧ stV τ 8 = goV (eC ρ) (grC ρ) (rgI ρ 12) what (ρ.1 0) (ρ.1 1) (stV σ0 8) k) n' (by
    rintro k ⟨⟩ τ hk ⟨q1, q2⟩
    have hex : ¬ n ≤ nI k := by rw [en]; exact nI_ge hk (by omega)
    by_cases w1 : what = 1
    · obtain ⟨τ1, p1, p2, p3⟩ := earnCt d (E := E) (A := A) (σ := τ) hT hG (by rw [q2]; exact (rg k).1) (by rw [q2]; exact okk k) (by rw [q2]; exact (rg k).2.1) (by rw [q2]; exact (rg k).2.2)
      refine ⟨(), τ1, ⟨q1.tr p2, ?_⟩, fun r σ1 h => ?_⟩
      · rw [p3, q2]
        show _ = if what = 1 then _ else _
        rw [if_pos w1]
      · exact gc_X0_will_44 ⟨fun q => absurd q hex, fun _ => ⟨fun q => absurd w1 q, fun _ => ⟨_, _, p1, by rw [nI_1]; exact h⟩⟩⟩
    · obtain ⟨τ1, p1, p2, p3⟩ := goCt (d + 1) (E := E) (A := A) (σ := τ) false hT hG (by rw [q2]; exact (rg k).1) (by rw [q2]; exact okk k) (by rw [q2]; exact (rg k).2.1) (by rw [q2]; exact (rg k).2.2)
      refine ⟨(), τ1, ⟨q1.tr p2, ?_⟩, fun r σ1 h => ?_⟩
      · rw [p3, q2]
        show _ = if what = 1 then _ else _
        rw [if_neg w1]
      · exact gc_X0_will_44 ⟨fun q => absurd q hex, fun _ => ⟨fun _ => ⟨_, _, p1, by rw [nI_1]; exact h⟩, fun q => absurd q w1⟩⟩) 0 () σ0 (Nat.zero_le _) ⟨o2.mo (by decide), rfl⟩
  refine ⟨τ, go a1.1 ⟨fun q => absurd q (bi_t h1), fun _ => ⟨fun q => absurd q h2, fun _ => ⟨fun _ => ⟨_, o1, a3 _ _ (gc_X0_will_44 ⟨fun _ => ⟨by rw [em]; exact vin (by omega) (by decide), ?_, rfl⟩, fun q => absurd (by rw [en]; exact nI_le (Nat.le_refl _) (by omega)) q⟩)⟩, fun q => absurd q h3⟩⟩⟩, a1⟩
  rw [em', rdt1 (by omega), a2, goV_cg (e' := eC ρ) (g' := grC ρ) agE.rf (agv.of o3) h6 h6c hO.2.1 (fun _ _ => rfl) n' (6 + m') (by omega) (by omega)]
/-- behind how many days none of set wears a coat -/
def bareE (ρ : Rho) (v : Nat → Int32) (set : Int32) : Int32 := first8 (fun k => decide (wearers8 (goV (eC ρ) (grC ρ) (rgI ρ 12) 0 (ρ.1 0) (ρ.1 1) v k) (ρ.1 0) &&& set = 0)) 61 0
theorem bareC (d : Nat) (set : Int32) (hT : tlV ρ) (hG : okG3 ρ) (hN : okNow ρ (stV σ 1)) :
    ∃ σ1, Tv ρ E A mX0_bareBehind (d + 305) 0 0 [.ref (A 0), .int set] σ (some (.int (bareE ρ (stV σ 1) set))) σ1 ∧ kc dplt σ σ1 := by
  have h6 := hT.1
  have h6c := hT.2.1
  obtain ⟨σ0, o1, o2, o3⟩ := ofC (d + 303) (ρ := ρ) (E := E) (A := A) (σ := σ)
  have hO := okThen hT hN o3
  have rg := fun k => goV_rg (ρ := ρ) (e := eC ρ) (g := grC ρ) (r := rgI ρ 12) (what := 0) h6 h6c hG hO.1 hO.2.2.1 hO.2.2.2 k
  have okk := fun k => goV_ok (e := eC ρ) (grows := grC ρ) (rain := rgI ρ 12) (what := 0) h6 h6c hO.2.1 k
  have ag := fun k => goV_cg (e' := eC ρ) (g' := grC ρ) (r := rgI ρ 12) (what := 0) agE.rf (agv.of o3) h6 h6c hO.2.1 (fun _ _ => rfl) k
  unfold bareE
  generalize hp : (fun k => decide (wearers8 (goV (eC ρ) (grC ρ) (rgI ρ 12) 0 (ρ.1 0) (ρ.1 1) (stV σ 1) k) (ρ.1 0) &&& set = 0)) = p
  have hpk : ∀ k, p k = decide (wearers8 (goV (eC ρ) (grC ρ) (rgI ρ 12) 0 (ρ.1 0) (ρ.1 1) (stV σ 1) k) (ρ.1 0) &&& set = 0) := fun k => by rw [← hp]
  have go : ∀ {r σ1}, σ1.2 = σ.2 → _ → Tv ρ E A mX0_bareBehind (d + 305) 0 0 [.ref (A 0), .int set] σ r σ1 := fun h2 h => Tv.of [.ref (A 0), .int set, U_] (by decide) rfl (fun _ => Nat.le_of_ble_eq_true rfl) h2 (gc_X0_bareBehind_0 ⟨_, o1, h⟩)
  have key := iterCe (T := Unit) (fun k _ τ r σ1 => Rv ρ E A mX0_bareBehind (d + 305) 0 0 13 [.ref (A 0), .int set, .int (nI k)] [] τ r σ1) (fun k _ τ => kc dplt σ τ ∧ stV τ 8 = goV (eC ρ) (grC ρ) (rgI ρ 12) 0 (ρ.1 0) (ρ.1 1) (stV σ0 8) k ∧ first8 p 61 0 = first8 p (61 - k) k) (fun r σ1 => r = some (.int (first8 p 61 0)) ∧ kc dplt σ σ1) 61 (by
    rintro k ⟨⟩ τ hk ⟨q1, q2, q3⟩
    have hex : ¬ 60 < nI k := by rw [i32_nlt]; exact nI_le (b := 60) (by omega) (by decide)
    have es : first8 p (61 - k) k = if p k then nI k else first8 p (61 - (k + 1)) (k + 1) := by
      rw [show 61 - k = (61 - (k + 1)) + 1 by omega]
      rfl
    have tw := dresCt (d + 303) (ρ := ρ) (E := E) (A := A) (σ := τ) h6 (by rw [q2]; exact (rg k).2.1)
    rw [q2, wrs_cg (ag k) h6] at tw
    by_cases hb : wearers8 (goV (eC ρ) (grC ρ) (rgI ρ 12) 0 (ρ.1 0) (ρ.1 1) (stV σ 1) k) (ρ.1 0) &&& set = 0
    · refine Or.inr ⟨_, τ, gc_X0_bareBehind_13 ⟨fun q => absurd q hex, fun _ => ⟨_, _, tw, fun q => absurd hb q, fun _ => ⟨rfl, rfl⟩⟩⟩, ?_, q1⟩
      rw [q3, es, if_pos (by rw [hpk]; exact decide_eq_true hb)]
    · obtain ⟨τ1, p1, p2, p3⟩ := goCt d (E := E) (A := A) (σ := τ) false hT hG (by rw [q2]; exact (rg k).1) (by rw [q2]; exact okk k) (by rw [q2]; exact (rg k).2.1) (by rw [q2]; exact (rg k).2.2)
      refine Or.inl ⟨(), τ1, ⟨q1.tr p2, ?_, ?_⟩, fun r σ1 h => ?_⟩
      · rw [p3, q2]
        show _ = if (0 : Int32) = 1 then _ else _
        rw [if_neg (by decide)]
      · rw [q3, es, if_neg (by rw [hpk, decide_eq_false hb]; decide)]
      · exact gc_X0_bareBehind_13 ⟨fun q => absurd q hex, fun _ => ⟨_, _, tw, fun _ => ⟨_, _, p1, by rw [nI_1]; exact h⟩, fun q => absurd q hb⟩⟩) 0 () σ0 (Nat.zero_le _) ⟨o2.mo (by decide), rfl, rfl⟩
  rcases key with ⟨_, τ, ⟨a1, a2, a4⟩, a3⟩ | ⟨r, σ1, b1, b2, b3⟩
  · refine ⟨τ, go a1.1 (a3 _ _ (gc_X0_bareBehind_13 ⟨fun _ => ⟨?_, rfl⟩, fun q => absurd (by decide) q⟩)), a1⟩
    rw [a4]
    rfl
  · subst b2
    exact ⟨σ1, go b3.1 b1, b3⟩
theorem outCM (d : Nat) (m : Int32) (hT : tlV ρ) (hG : okG3 ρ) (hN : okNow ρ (stV σ 1)) :
    ∃ σ1, Tv ρ E A mX0_out (d + 306) 0 0 [.ref (A 0), .int m] σ (some (.int (if idx m (ρ.1 0) then bareE ρ (stV σ 1) (1 <<< (m &&& 31)) else -1))) σ1 ∧ kc dplt σ σ1 := by
  have q0 := isManC (d + 302) (E := E) (A := A) (σ := σ) m hT.1
  have go : ∀ {r σ1}, σ1.2 = σ.2 → _ → Tv ρ E A mX0_out (d + 306) 0 0 [.ref (A 0), .int m] σ r σ1 := fun h2 h => Tv.of [.ref (A 0), .int m] (by decide) rfl (fun _ => Nat.le_of_ble_eq_true rfl) h2 (gc_X0_out_0 ⟨_, _, q0, h⟩)
  cases h1 : idx m (ρ.1 0) with
  | false => exact ⟨σ, go rfl ⟨fun _ => ⟨rfl, rfl⟩, fun q => absurd (bi_f h1) q⟩, kc.rf⟩
  | true =>
    obtain ⟨σ1, p1, p2⟩ := bareC d (E := E) (A := A) (σ := σ) (1 <<< (m &&& 31)) hT hG hN
    exact ⟨σ1, go p2.1 ⟨fun q => absurd q (bi_t h1), fun _ => ⟨_, _, p1, rfl, rfl⟩⟩, p2⟩
theorem routCM (d : Nat) (hT : tlV ρ) (hG : okG3 ρ) (hN : okNow ρ (stV σ 1)) :
    ∃ σ1, Tv ρ E A mX0_rout (d + 306) 0 0 [.ref (A 0)] σ (some (.int (bareE ρ (stV σ 1) 63))) σ1 ∧ kc dplt σ σ1 := by
  obtain ⟨σ1, p1, p2⟩ := bareC d (E := E) (A := A) (σ := σ) 63 hT hG hN
  exact ⟨σ1, Tv.of [.ref (A 0)] (by decide) rfl (fun _ => Nat.le_of_ble_eq_true rfl) p2.1 (gc_X0_rout_0 ⟨_, _, p1, rfl, rfl⟩), p2⟩
/-! handing on, turning, changing -/
theorem bit_mem : ∀ s : Fin 64, sj_bitCount (nI s.val) = s8_members (nI s.val) := by decide +kernel
theorem bit_set (f : Nat → Bool) {n : Nat} (hn : n ≤ 6) : sj_bitCount (set8 f n) = s8_members (set8 f n) := by
  obtain ⟨s, hs, es⟩ := set8_n f hn
  rw [es]
  exact bit_mem ⟨s, hs⟩
theorem mem_cnt6 : ∀ (b0 b1 b2 b3 b4 b5 : Bool) (n : Fin 7), s8_members (set8 (bl6 b0 b1 b2 b3 b4 b5) n.val) = cnt8 (bl6 b0 b1 b2 b3 b4 b5) n.val := by decide +kernel
theorem mem_cnt (f : Nat → Bool) {n : Nat} (hn : n ≤ 6) : s8_members (set8 f n) = cnt8 f n := by
  rw [set8_congr n (fun i hi => bl6_f f (show i < 6 by omega)), cnt8_cg (fun i hi => bl6_f f (show i < 6 by omega)), mem_cnt6 _ _ _ _ _ _ ⟨n, by omega⟩]
theorem mis_c0 {e : E8} {u v : Nat → Int32} {m c : Nat} (h : agv 0 u v) (hm : m < 6) (hc : c < 6) : misE e u m c = misE e v m c := by
  unfold misE mis8
  have q : asks8 e.2.2.2.2.1 u m c = asks8 e.2.2.2.2.1 v m c := by
    funext q
    unfold asks8
    rw [h m (by omega) (by omega), h (18 + c) (by omega) (by omega), h (12 + c) (by omega) (by omega), h (30 + c) (by omega) (by omega), h 37 (by omega) (by omega)]
  rw [q, h m (by omega) (by omega), h (18 + c) (by omega) (by omega), h (12 + c) (by omega) (by omega), h (30 + c) (by omega) (by omega)]
theorem fit_c0 {e : E8} {u v : Nat → Int32} {m c : Nat} (h : agv 0 u v) (hm : m < 6) (hc : c < 6) : fitE e u m c = fitE e v m c := by
  unfold fitE
  rw [mis_c0 h hm hc]
theorem rotV_0 {v : Nat → Int32} {nm k : Nat} (h6 : nm ≤ 6) : agv 0 (rotV v nm k) v := fun j hj h => by
  unfold rotV
  rw [if_neg (by omega)]
theorem rotV_w {v : Nat → Int32} {nm k m : Nat} (hm : m < nm) : rotV v nm k (6 + m) = v (6 + (m + k) % nm) := by
  unfold rotV
  rw [if_pos (by omega), Nat.add_sub_cancel_left]
theorem cntB (f : Nat → Bool) (k : Nat) : cnt8 f k + (if bi (f k) = 0 then (0 : Int32) else 1) = cnt8 f (k + 1) := by
  rw [bi_bi]
  exact cnt8_s f k
theorem rotaCM (d : Nat) (what : Int32) (hT : tlV ρ) (hN : okNow ρ (stV σ 1)) :
    ∃ σ1, Tv ρ E A mX0_rota (d + 303) 0 0 [.ref (A 0), .int what] σ (some (.int (if s8_isIn what 0 1 = 0 ∨ ρ.1 0 = 0 then -1 else if what = 0 then (best8 (fun k => fitN (eC ρ) (rotV (stV σ 1) (ρ.1 0) k) (ρ.1 0)) (0, -1) (ρ.1 0)).1 else (best8 (fun k => fitN (eC ρ) (rotV (stV σ 1) (ρ.1 0) k) (ρ.1 0)) (0, -1) (ρ.1 0)).2))) σ1 ∧ kc [30] σ σ1 := by
  have h6 := hT.1
  have h6c := hT.2.1
  have go : ∀ {r σ1}, σ1.2 = σ.2 → _ → Tv ρ E A mX0_rota (d + 303) 0 0 [.ref (A 0), .int what] σ r σ1 := fun h2 h => Tv.of [.ref (A 0), .int what, U_, U_, U_, U_, U_] (by decide) rfl (fun _ => Nat.le_of_ble_eq_true rfl) h2 (gc_X0_rota_0 ⟨_, _, menC (d + 300), h⟩)
  by_cases h2 : ρ.1 0 = 0
  · rw [if_pos (Or.inr h2)]
    exact ⟨σ, go rfl ⟨fun _ => ⟨rfl, rfl⟩, fun q => absurd (by rw [h2]; rfl) q⟩, kc.rf⟩
  have hz : ¬ nI (ρ.1 0) = 0 := nI_ne0 (by omega) (by omega)
  by_cases h1 : s8_isIn what 0 1 = 0
  · rw [if_pos (Or.inl h1)]
    exact ⟨σ, go rfl ⟨fun q => absurd q hz, fun _ => ⟨fun q => absurd h1 q, fun _ => ⟨rfl, rfl⟩⟩⟩, kc.rf⟩
  rw [if_neg (fun h => h.elim h1 h2)]
  generalize hsc : (fun k => fitN (eC ρ) (rotV (stV σ 1) (ρ.1 0) k) (ρ.1 0)) = sc
  obtain ⟨a, τ, ⟨a1, a2⟩, a3⟩ := iterC (T := Int32 × Int32) (fun k a τ r σ1 => Rv ρ E A mX0_rota (d + 303) 0 0 25 [.ref (A 0), .int what, .int a.1, .int a.2, .int (nI k), U_, U_] [] τ r σ1) (fun k a τ => a = best8 sc (0, -1) k ∧ kc [30] σ τ) (ρ.1 0) (by
    rintro k a τ hk ⟨q0, q1⟩
    obtain ⟨n, τ1, ⟨b1, b2⟩, b3⟩ := iterC (T := Int32) (fun m n τ r σ1 => Rv ρ E A mX0_rota (d + 303) 0 0 40 [.ref (A 0), .int what, .int a.1, .int a.2, .int (nI k), .int n, .int (nI m)] [] τ r σ1) (fun m n τ => n = cnt8 (ownE (eC ρ) (rotV (stV σ 1) (ρ.1 0) k)) m ∧ kc [30] σ τ) (ρ.1 0) (by
      rintro m n τ1 hm ⟨rfl, p1⟩
      have ev : stV τ1 1 = stV σ 1 := stV_kc p1 (by decide)
      have em : (nI m + nI k - (nI m + nI k) / nI (ρ.1 0) * nI (ρ.1 0) : Int32) = nI ((m + k) % ρ.1 0) := by
        rw [nI_add]
        exact pk_rem (by omega) (by omega) (by omega)
      have hmod := Nat.mod_lt (m + k) (show 0 < ρ.1 0 by omega)
      obtain ⟨τ2, q2, q3⟩ := ownCn d (E := E) (A := A) (σ := τ1) (m := m) (v := stV σ 1) (w := stV σ 1 (6 + (m + k) % ρ.1 0)) hT hm (by rw [ev]; exact hN.1) ev (hN.2.1 _ hmod)
      have eo : (if stV σ 1 (6 + (m + k) % ρ.1 0) < 0 then false else fitE (eC ρ) (stV σ 1) m (stV σ 1 (6 + (m + k) % ρ.1 0)).toNatClampNeg) = ownE (eC ρ) (rotV (stV σ 1) (ρ.1 0) k) m := by
        unfold ownE
        rw [rotV_w hm]
        rcases hN.2.1 _ hmod with q | ⟨c, hc, q⟩
        · rw [q, if_pos (by decide), if_pos (by decide)]
        · rw [q, cl (by omega), fit_c0 (rotV_0 h6) (by omega) (by omega)]
      rw [eo] at q2
      refine ⟨_, τ2, ⟨rfl, p1.tr q3⟩, fun r σ1 h => ?_⟩
      refine gc_X0_rota_40 ⟨_, _, menC (d + 300), fun q => absurd q (nI_ge hm (by omega)), fun _ => ⟨_, _, menC (d + 300), hz, by rw [em]; exact vin (by omega) (by decide), _, τ2, by rw [em, cl (by omega), rdn1 (by omega), ev]; exact q2, ?_⟩⟩
      rw [cntB, nI_1]
      exact h) 0 0 τ (Nat.zero_le _) ⟨rfl, q1⟩
    subst b1
    have esc : cnt8 (ownE (eC ρ) (rotV (stV σ 1) (ρ.1 0) k)) (ρ.1 0) = sc k := by
      rw [← hsc, ← mem_cnt _ h6]
      rfl
    refine ⟨best8 sc (0, -1) (k + 1), τ1, ⟨rfl, b2⟩, fun r σ1 h => ?_⟩
    refine gc_X0_rota_25 ⟨_, _, menC (d + 300), fun q => absurd q (nI_ge hk (by omega)), fun _ => b3 _ _ (gc_X0_rota_40 ⟨_, _, menC (d + 300), fun _ => ⟨fun q => ?_, fun q => ?_⟩, fun q => absurd (nI_le (Nat.le_refl _) (by omega)) q⟩)⟩
    · rw [esc] at q ⊢
      rw [best8_s, ← q0, if_pos q] at h
      rw [nI_1]
      exact h
    · rw [esc] at q
      rw [best8_s, ← q0, if_neg q] at h
      rw [nI_1]
      exact h) 0 (0, -1) σ (Nat.zero_le _) ⟨rfl, kc.rf⟩
  subst a1
  refine ⟨τ, go a2.1 ⟨fun q => absurd q hz, fun _ => ⟨fun _ => a3 _ _ (gc_X0_rota_25 ⟨_, _, menC (d + 300), fun _ => ⟨?_, rfl⟩, fun q => absurd (nI_le (Nat.le_refl _) (by omega)) q⟩), fun q => absurd q h1⟩⟩, a2⟩
  by_cases hw : what = 0
  · rw [if_pos hw]
  · rw [if_neg hw]
theorem upw_ok {v : Nat → Int32} {nm nc j : Nat} {x : Int32} (h6 : nm ≤ 6) (hj : 12 ≤ j) (h : okW v nm nc) : okW (upd v j x) nm nc := fun m hm => by
  rw [upd_n (by omega)]
  exact h m hm
theorem upr_ok {v : Nat → Int32} {nm nc c : Nat} (h6 : nm ≤ 6) (hc6 : nc ≤ 6) (hc : c < 6) (h : rgV v nm nc) : rgV (upd v (30 + c) 0) nm nc := by
  refine ⟨fun m hm => by rw [upd_n (by omega)]; exact h.1 m hm, fun q hq => ?_⟩
  rw [upd_n (by omega), upd_n (by omega), upd_n (by omega)]
  refine ⟨(h.2 q hq).1, (h.2 q hq).2.1, (h.2 q hq).2.2.1, ?_⟩
  by_cases e : q = c
  · subst e; rw [upd_s]; exact nI_okn (n := 0) (by omega)
  · rw [upd_n (by omega)]; exact (h.2 q hq).2.2.2
theorem turningCM (d : Nat) (hT : tlV ρ) (hN : okNow ρ (stV σ 1)) : ∃ σ1, Tv ρ E A mX0_turning (d + 304) 0 0 [.ref (A 0)] σ (some (.int (turn8 (eC ρ) (stV σ 1) (ρ.1 0) (ρ.1 1)).1)) σ1 ∧ kc dplt σ σ1 := by
  have h6 := hT.1
  have h6c := hT.2.1
  obtain ⟨a, τ, ⟨a1, a2⟩, a3⟩ := iterC (T := Int32 × Int32) (fun k a τ r σ1 => Rv ρ E A mX0_turning (d + 304) 0 0 6 [.ref (A 0), .int a.1, .int a.2, .int (nI k), U_] [] τ r σ1) (fun k a τ => a = turn8 (eC ρ) (stV σ 1) (ρ.1 0) k ∧ kc dplt σ τ) (ρ.1 1) (by
    rintro k a τ hk ⟨q0, q1⟩
    have ev : stV τ 1 = stV σ 1 := stV_kc q1 (by decide)
    have hex : ¬ nI (ρ.1 1) ≤ nI k := nI_ge hk (by omega)
    have eh : s0_has (τ.1 1 6) (nI k) = bi (hasB (stV σ 1 36) k) := by rw [has_c, rdn6, ev]
    by_cases hb : hasB (stV σ 1 36) k = true
    · refine ⟨_, τ, ⟨rfl, q1⟩, fun r σ1 h => ?_⟩
      rw [turn8_s, if_pos hb, ← q0] at h
      refine gc_X0_turning_6 ⟨_, _, coatsC (d + 301), fun q => absurd q hex, fun _ => ⟨fun q => absurd q (by rw [eh]; exact bi_t hb), fun _ => ?_⟩⟩
      rw [nI_1]
      exact h
    · obtain ⟨σ0, o1, o2, o3⟩ := ofC (d + 302) (ρ := ρ) (E := E) (A := A) (σ := τ)
      rw [ev] at o3
      have hO := okThen hT hN o3
      have e8 := svt5 (σ := σ0) (w := σ0.2) (k := k) (x := 0) (by omega)
      have k2 : kc dplt σ (upA σ0.1 14 (upd (σ0.1 14) k 0), σ0.2) := (q1.tr (o2.mo (by decide))).up (o := 14) (by decide) _
      obtain ⟨τ2, f1, f2⟩ := fittCt d (E := E) (A := A) (σ := (upA σ0.1 14 (upd (σ0.1 14) k 0), σ0.2)) hT (by rw [e8]; exact upr_ok h6 h6c (by omega) hO.1) (by rw [e8]; exact upw_ok h6 (by omega) hO.2.1)
      have esc : sj_bitCount (set8 (ownE (eC ρ) (upd (stV σ0 8) (30 + k) 0)) (ρ.1 0)) = fitN (eC ρ) (upd (stV σ 1) (30 + k) 0) (ρ.1 0) := by
        rw [bit_set _ h6]
        exact fitN_cg agE.rf ((agv.of o3).up _ rfl) h6 h6c (upw_ok h6 (by omega) hO.2.1)
      refine ⟨turn8 (eC ρ) (stV σ 1) (ρ.1 0) (k + 1), τ2, ⟨rfl, k2.tr (f2.mo (by decide))⟩, fun r σ1 h => ?_⟩
      rw [turn8_s, if_neg hb, ← q0] at h
      refine gc_X0_turning_6 ⟨_, _, coatsC (d + 301), fun q => absurd q hex, fun _ => ⟨fun _ => ⟨_, o1, vin (by omega) (by decide), _, τ2, by rw [cl (by omega)]; exact f1, fun q => ?_, fun q => ?_⟩, fun q => absurd (by rw [eh]; exact bi_f (by simpa using hb)) q⟩⟩
      · rw [e8, esc] at q ⊢
        rw [if_pos q] at h
        rw [nI_1]
        exact h
      · rw [e8, esc] at q
        rw [if_neg q] at h
        rw [nI_1]
        exact h) 0 (-1, -1) σ (Nat.zero_le _) ⟨rfl, kc.rf⟩
  subst a1
  exact ⟨τ, Tv.of [.ref (A 0), U_, U_, U_, U_] (by decide) rfl (fun _ => Nat.le_of_ble_eq_true rfl) a2.1 (gc_X0_turning_0 (a3 _ _ (gc_X0_turning_6 ⟨_, _, coatsC (d + 301), fun _ => ⟨rfl, rfl⟩, fun q => absurd (nI_le (Nat.le_refl _) (by omega)) q⟩))), a2⟩
theorem chV_cg {nm a b : Nat} {u v : Nat → Int32} (h : agv nm u v) (h6 : nm ≤ 6) (ha : a < nm) (hb : b < nm) : agv nm (chV u a b) (chV v a b) := by
  unfold chV
  exact (h.up _ (h (6 + b) (by omega) (by omega))).up _ (h (6 + a) (by omega) (by omega))
theorem chV_rg {nm nc a b : Nat} {v : Nat → Int32} (h6 : nm ≤ 6) (ha : a < nm) (hb : b < nm) (h : rgV v nm nc) : rgV (chV v a b) nm nc := by
  have e : ∀ j, (j < 6 ∨ 12 ≤ j) → chV v a b j = v j := fun j hj => by
    unfold chV
    rw [upd_n (by omega), upd_n (by omega)]
  exact ⟨fun m hm => by rw [e _ (by omega)]; exact h.1 m hm, fun c hc => by rw [e _ (by omega), e _ (by omega), e _ (by omega), e _ (by omega)]; exact h.2 c hc⟩
theorem isIn2_c {w : Int32} (h0 : ¬ w = 0) (h1 : ¬ w = 1) : (s8_isIn w 0 2 = 0) ↔ ¬ w = 2 := by
  constructor
  · rintro h rfl
    exact absurd h (by decide)
  · intro h2
    apply Classical.byContradiction
    intro q
    obtain ⟨j, hj, rfl⟩ := isIn_n (N := 2) (by decide) q
    match j, hj with
    | 0, _ => exact h0 rfl
    | 1, _ => exact h1 rfl
    | 2, _ => exact h2 rfl
theorem changeCM (d : Nat) (what : Int32) (hT : tlV ρ) (hN : okNow ρ (stV σ 1)) :
    ∃ σ1, Tv ρ E A mX0_change (d + 305) 0 0 [.ref (A 0), .int what] σ (some (.int (if s8_isIn what 0 2 = 0 then -1 else if 0 ≤ (chE (eC ρ) (stV σ 1) (ρ.1 0)).2 then (if what = 0 then (chE (eC ρ) (stV σ 1) (ρ.1 0)).2 / 6 else if what = 1 then (chE (eC ρ) (stV σ 1) (ρ.1 0)).2 - (chE (eC ρ) (stV σ 1) (ρ.1 0)).2 / 6 * 6 else (chE (eC ρ) (stV σ 1) (ρ.1 0)).1) else -1))) σ1 ∧ kc dplt σ σ1 := by
  have h6 := hT.1
  have h6c := hT.2.1
  obtain ⟨σf, f1, f2⟩ := fittedCM d (E := E) (A := A) (σ := σ) hT hN
  generalize hsc : (fun a b => fitN (eC ρ) (chV (stV σ 1) a b) (ρ.1 0)) = sc
  have hE : chE (eC ρ) (stV σ 1) (ρ.1 0) = chO sc (ρ.1 0) (fitN (eC ρ) (stV σ 1) (ρ.1 0), -1) (ρ.1 0) := by unfold chE; rw [hsc]
  rw [hE]
  obtain ⟨p, τ, ⟨a1, a2⟩, a3⟩ := iterC (T := Int32 × Int32) (fun a p τ r σ1 => Rv ρ E A mX0_change (d + 305) 0 0 13 [.ref (A 0), .int what, .int p.1, .int p.2, .int (nI a), U_, U_] [] τ r σ1) (fun a p τ => p = chO sc (ρ.1 0) (fitN (eC ρ) (stV σ 1) (ρ.1 0), -1) a ∧ kc dplt σ τ) (ρ.1 0) (by
    rintro a p τ ha ⟨q0, q1⟩
    obtain ⟨p', τ1, ⟨b1, b2, _⟩, b3⟩ := iterC (T := Int32 × Int32) (fun b p τ r σ1 => Rv ρ E A mX0_change (d + 305) 0 0 28 [.ref (A 0), .int what, .int p.1, .int p.2, .int (nI a), .int (nI b), U_] [] τ r σ1) (fun b p1 τ => p1 = chI sc a p b ∧ kc dplt σ τ ∧ a < b) (ρ.1 0) (by
      rintro b p1 τ1 hb ⟨z0, z1, z2⟩
      have ev : stV τ1 1 = stV σ 1 := stV_kc z1 (by decide)
      obtain ⟨σ0, o1, o2, o3⟩ := ofC (d + 303) (ρ := ρ) (E := E) (A := A) (σ := τ1)
      rw [ev] at o3
      have hO := okThen hT hN o3
      obtain ⟨σ2, x1, x2, x3⟩ := exchCt (d + 303) (ρ := ρ) (E := E) (A := A) (σ := σ0) (m := a) (o := b) (by omega) (by omega)
      have x3' : stV σ2 8 = chV (stV σ0 8) a b := x3
      obtain ⟨τ2, g1, g2⟩ := fittCt (d + 1) (E := E) (A := A) (σ := σ2) hT (by rw [x3']; exact chV_rg h6 ha hb hO.1) (by rw [x3']; exact chV_ok ha hb hO.2.1)
      have esc : sj_bitCount (set8 (ownE (eC ρ) (stV σ2 8)) (ρ.1 0)) = sc a b := by
        rw [bit_set _ h6, x3', ← hsc]
        exact fitN_cg agE.rf (chV_cg (agv.of o3) h6 ha hb) h6 h6c (chV_ok ha hb hO.2.1)
      refine ⟨chI sc a p (b + 1), τ2, ⟨rfl, ((z1.tr (o2.mo (by decide))).tr (x2.mo (by decide))).tr (g2.mo (by decide)), by omega⟩, fun r σ1 h => ?_⟩
      rw [chI_s, if_pos z2, ← z0] at h
      refine gc_X0_change_28 ⟨_, _, menC (d + 302), fun q => absurd q (nI_ge hb (by omega)), fun _ => ⟨_, o1, _, x1, _, τ2, g1, fun q => ?_, fun q => ?_⟩⟩
      · rw [esc] at q ⊢
        rw [if_pos q] at h
        rw [nI_1]
        exact h
      · rw [esc] at q
        rw [if_neg q] at h
        rw [nI_1]
        exact h) (a + 1) p τ (by omega) ⟨(chI_lo sc a p (a + 1) (Nat.le_refl _)).symm, q1, by omega⟩
    refine ⟨chO sc (ρ.1 0) (fitN (eC ρ) (stV σ 1) (ρ.1 0), -1) (a + 1), τ1, ⟨rfl, b2⟩, fun r σ1 h => ?_⟩
    rw [chO_s, ← q0, ← b1] at h
    refine gc_X0_change_13 ⟨_, _, menC (d + 302), fun q => absurd q (nI_ge ha (by omega)), fun _ => ?_⟩
    rw [nI_1]
    refine b3 _ _ (gc_X0_change_28 ⟨_, _, menC (d + 302), fun _ => ?_, fun q => absurd (nI_le (Nat.le_refl _) (by omega)) q⟩)
    rw [nI_1]
    exact h) 0 (fitN (eC ρ) (stV σ 1) (ρ.1 0), -1) σf (Nat.zero_le _) ⟨rfl, f2.mo (by decide)⟩
  rw [← a1]
  refine ⟨τ, Tv.of [.ref (A 0), .int what, U_, U_, U_, U_, U_] (by decide) rfl (fun _ => Nat.le_of_ble_eq_true rfl) a2.1 (gc_X0_change_0 ⟨_, _, f1, ?_⟩), a2⟩
  rw [bit_set _ h6]
  refine a3 _ _ (gc_X0_change_13 ⟨_, _, menC (d + 302), fun _ => ⟨fun hp => ⟨fun w0 => ⟨fun w1 => ⟨?_, rfl⟩, fun w1 => ⟨?_, rfl⟩⟩, fun w0 => ⟨?_, rfl⟩⟩, fun hp => ⟨?_, rfl⟩⟩, fun q => absurd (nI_le (Nat.le_refl _) (by omega)) q⟩)
  · rw [if_pos hp, if_neg w0, if_neg w1]
    by_cases w2 : what = 2
    · rw [if_pos w2, if_neg (fun q => (isIn2_c w0 w1).mp q w2)]
    · rw [if_neg w2, if_pos ((isIn2_c w0 w1).mpr w2)]
  · subst w1
    rw [if_neg (by decide), if_pos hp, if_neg (by decide), if_pos rfl]
  · subst w0
    rw [if_neg (by decide), if_pos hp, if_pos rfl]
  · rw [if_neg hp]
    by_cases q : s8_isIn what 0 2 = 0
    · rw [if_pos q]
    · rw [if_neg q]
end C4
