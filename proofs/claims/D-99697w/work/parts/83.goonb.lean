/-! the component's states: a day (2), beginnings, copies -/
set_option maxRecDepth 100000
/-- men's growth is from 0 to 99 -/
def okG3 (ρ : Rho) : Prop := ∀ m, m < ρ.1 0 → okn (mnI ρ m 3)
theorem lesser_ok {a b : Int32} (ha : okn a) (hb : okn b) : okn (s8_lesser 99 (a + b)) := by
  obtain ⟨x, hx, rfl⟩ := okn_nI ha
  obtain ⟨y, hy, rfl⟩ := okn_nI hb
  rw [nI_add]
  unfold s8_lesser
  split
  · rename_i h
    have : x + y ≤ 99 := (nI_leI (b := 99) (by omega) (by omega)).mp h
    exact nI_okn this
  · exact nI_okn (n := 99) (by omega)
theorem greater_ok {a : Int32} (b : Bool) (ha : okn a) : okn (s8_greater 0 (a - bi b)) := by
  obtain ⟨x, hx, rfl⟩ := okn_nI ha
  cases b with
  | false =>
    have : nI x - bi false = nI x := by show nI x - 0 = nI x; rw [Int32.sub_zero]
    rw [this]
    unfold s8_greater
    split
    · exact nI_okn hx
    · exact nI_okn (n := 0) (by omega)
  | true =>
    unfold s8_greater
    cases x with
    | zero =>
      rw [if_neg (by decide)]
      exact nI_okn (n := 0) (by omega)
    | succ x =>
      have : nI (x + 1) - bi true = nI x := nI_pred x
      rw [this, if_pos (nI_pos' (by omega))]
      exact nI_okn (by omega)
theorem okn_1 : okn 1 := nI_okn (n := 1) (by omega)
theorem mid_rg {ρ : Rho} {v : Nat → Int32} {b : Bool} {nm nc : Nat} (h6 : nm ≤ 6) (hc6 : nc ≤ 6) {grows : Nat → Int32} (hg : ∀ m, m < nm → okn (grows m)) (hr : rgV v nm nc) : rgV (midV grows (bi b) nm nc v) nm nc := by
  unfold midV gd3
  have hgd : ∀ j, 6 ≤ j → gd1 grows v nm j = v j := fun j hj => gd1_out nm j (by omega)
  refine ⟨fun m hm => ?_, fun c hc => ?_⟩
  · rw [upd_n (by omega), gd2_at h6 nc hc6, if_pos (by omega), gd1_at, if_pos hm]
    exact lesser_ok (hr.1 m hm) (hg m hm)
  · obtain ⟨r1, r2, r3, r4⟩ := hr.2 c hc
    refine ⟨?_, ?_, ?_, ?_⟩
    · rw [upd_n (by omega), gd2_at h6 nc hc6, if_neg (by omega), if_pos (by omega), hgd _ (by omega)]
      split
      · exact greater_ok b r1
      · exact r1
    · rw [upd_n (by omega), gd2_at h6 nc hc6, if_neg (by omega), if_neg (by omega), if_pos (by omega), hgd _ (by omega)]
      split
      · exact greater_ok b r2
      · exact r2
    · rw [upd_n (by omega), gd2_at h6 nc hc6, if_neg (by omega), if_neg (by omega), if_neg (by omega), if_pos (by omega), hgd _ (by omega)]
      exact r3
    · rw [upd_n (by omega), gd2_at h6 nc hc6, if_neg (by omega), if_neg (by omega), if_neg (by omega), if_neg (by omega), if_pos (by omega), hgd _ (by omega)]
      split
      · exact lesser_ok r4 okn_1
      · exact r4
theorem day_rg {e : E8} {v : Nat → Int32} {b : Bool} {nm nc : Nat} (h6 : nm ≤ 6) (hc6 : nc ≤ 6) {grows : Nat → Int32} (hg : ∀ m, m < nm → okn (grows m)) (hr : rgV v nm nc) : rgV (dayV e grows (bi b) nm nc v) nm nc := by
  have h := mid_rg (ρ := ((fun _ => 0), (fun _ _ => 0), (fun _ _ _ => 0), (fun _ _ => 0), none, fun _ _ => none)) (b := b) h6 hc6 hg hr
  have hn : ∀ j, ¬ (6 ≤ j ∧ j < 6 + nm) → dayV e grows (bi b) nm nc v j = midV grows (bi b) nm nc v j := fun j hj => by
    unfold dayV
    rw [gd4_at, if_neg (fun q => hj ⟨q.1, q.2.1⟩)]
  refine ⟨fun m hm => by rw [hn m (by omega)]; exact h.1 m hm, fun c hc => ?_⟩
  rw [hn _ (by omega), hn _ (by omega), hn _ (by omega), hn _ (by omega)]
  exact h.2 c hc
theorem day_nob {e : E8} {v : Nat → Int32} {t : Int32} {nm nc : Nat} (h6 : nm ≤ 6) (hc6 : nc ≤ 6) {grows : Nat → Int32} (h : nob v nm) : nob (dayV e grows t nm nc v) nm := by
  intro m h1 h2
  unfold dayV
  rw [gd4_at, if_neg (by omega), midV_w h6 hc6 (by omega) (by omega)]
  exact h m h1 h2
theorem day_unq {e : E8} {v : Nat → Int32} {t : Int32} {nm nc : Nat} (h6 : nm ≤ 6) (hc6 : nc ≤ 6) {grows : Nat → Int32} (h : unq v nm) : unq (dayV e grows t nm nc v) nm := by
  have key : ∀ m, m < nm → dayV e grows t nm nc v (6 + m) = -1 ∨ dayV e grows t nm nc v (6 + m) = v (6 + m) := by
    intro m hm
    unfold dayV
    rw [gd4_at]
    split
    · exact Or.inl rfl
    · exact Or.inr (midV_w h6 hc6 (by omega) (by omega))
  intro m o hm ho hp he
  rcases key m hm with q | q
  · rw [q] at hp; exact absurd hp (by decide)
  · rcases key o ho with q2 | q2
    · rw [he, q2] at hp; exact absurd hp (by decide)
    · rw [q] at hp he
      rw [q2] at he
      exact h m o hm ho hp he
theorem mid_nob {v : Nat → Int32} {t : Int32} {nm nc : Nat} (h6 : nm ≤ 6) (hc6 : nc ≤ 6) {grows : Nat → Int32} (h : nob v nm) : nob (midV grows t nm nc v) nm := by
  intro m h1 h2
  rw [midV_w h6 hc6 (by omega) (by omega)]
  exact h m h1 h2
theorem bi_if01 (b : Bool) : (if bi b = 0 then (0 : Int32) else 1) = bi b := by cases b <;> rfl
/-- places that a day in the state changes -/
def dpln : List Nat := [1, 2, 3, 4, 5, 6, 7, 30]
theorem goCn (d : Nat) {ρ : Rho} {E : Hp → Prop} {A : Nat → Nat} {σ : Sg} (b : Bool) (hT : tlV ρ) (hG : okG3 ρ) (hr : rgV (stV σ 1) (ρ.1 0) (ρ.1 1)) (hW : okW (stV σ 1) (ρ.1 0) (ρ.1 1)) (hn : nob (stV σ 1) (ρ.1 0)) (hu : unq (stV σ 1) (ρ.1 0)) :
    ∃ σ1, Tv ρ E A mX2_goOn (d + 304) 0 0 [.ref (A 1), .ref (ρ.1 2), .int (bi b)] σ (some (.int (dayO (eC ρ) (fun m => mnI ρ m 3) (bi b) (ρ.1 0) (ρ.1 1) (stV σ 1)))) σ1 ∧ kc dpln σ σ1 ∧ stV σ1 1 = dayV (eC ρ) (fun m => mnI ρ m 3) (bi b) (ρ.1 0) (ρ.1 1) (stV σ 1) := by
  have h6 := hT.1
  have h6c := hT.2.1
  obtain ⟨_, τ1, ⟨a1, a2⟩, a3⟩ := iterC (T := Unit) (fun k _ τ r σ1 => Rv ρ E A mX2_goOn (d + 304) 0 0 2 [.ref (A 1), .ref (ρ.1 2), .int (bi b), .int (nI k), U_] [] τ r σ1) (fun k _ τ => kc dpln σ τ ∧ stV τ 1 = cgo (fun m => mnI ρ m 3) (bi b) (stV σ 1) k) (ρ.1 0) (by
    rintro k ⟨⟩ τ hk ⟨q1, q2⟩
    have ck : (nI k).toNatClampNeg = k := cl (by omega)
    have ek : stV τ 1 (6 + k) = stV σ 1 (6 + k) := by
      rw [q2, cgo_at h6 h6c hW hu k (by omega)]
      unfold cgf
      rw [if_neg (by omega), if_pos (by omega)]
    have hs : cgo (fun m => mnI ρ m 3) (bi b) (stV σ 1) (k + 1) = cg1 (fun m => mnI ρ m 3) (bi b) k (stV τ 1) := by rw [q2]; rfl
    rcases hW k hk with h | ⟨c, hc, h⟩
    · refine ⟨(), (upA τ.1 2 (upd (τ.1 2) k (s8_lesser 99 (stV τ 1 k + mnI ρ k 3))), τ.2), ⟨q1.up (o := 2) (by decide) _, ?_⟩, fun r σ1 hh => ?_⟩
      · rw [hs, svn0 (by omega)]
        unfold cg1
        rw [ek, h, if_neg (by decide)]
      · refine gc_X2_goOnn_2 ⟨fun q => absurd q (nI_ge hk (by omega)), fun _ => ⟨vin (by omega) (by decide), vin hk (by omega), fun q => absurd q (by rw [ck, rdn1 (by omega), ek, h]; decide), fun _ => ?_⟩⟩
        rw [ck, rdn0 (by omega), min_l, nI_1]
        exact hh
    · have hpos : (0 : Int32) ≤ nI c := nI_pos' (by omega)
      have cc : (nI c).toNatClampNeg = c := cl (by omega)
      have ew : τ.1 3 k = nI c := by rw [rdn1 (by omega), ek, h]
      refine ⟨(), (upA (upA (upA (upA τ.1 2 (upd (τ.1 2) k (s8_lesser 99 (stV τ 1 k + mnI ρ k 3)))) 7 (upd (τ.1 7) c (s8_lesser 99 (stV τ 1 (30 + c) + 1)))) 5 (upd (τ.1 5) c (s8_greater 0 (stV τ 1 (18 + c) - bi b)))) 4 (upd (τ.1 4) c (s8_greater 0 (stV τ 1 (12 + c) - bi b))), τ.2), ⟨?_, ?_⟩, fun r σ1 hh => ?_⟩
      · exact (((q1.up (o := 2) (by decide) _).up (o := 7) (by decide) _).up (o := 5) (by decide) _).up (o := 4) (by decide) _
      · rw [hs]
        unfold cg1
        rw [ek, h, if_pos hpos, cc]
        have x1 := svn2 (σ := (upA (upA (upA τ.1 2 (upd (τ.1 2) k (s8_lesser 99 (stV τ 1 k + mnI ρ k 3)))) 7 (upd (τ.1 7) c (s8_lesser 99 (stV τ 1 (30 + c) + 1)))) 5 (upd (τ.1 5) c (s8_greater 0 (stV τ 1 (18 + c) - bi b))), τ.2)) (w := τ.2) (x := s8_greater 0 (stV τ 1 (12 + c) - bi b)) (show c < 6 by omega)
        have x2 := svn3 (σ := (upA (upA τ.1 2 (upd (τ.1 2) k (s8_lesser 99 (stV τ 1 k + mnI ρ k 3)))) 7 (upd (τ.1 7) c (s8_lesser 99 (stV τ 1 (30 + c) + 1))), τ.2)) (w := τ.2) (x := s8_greater 0 (stV τ 1 (18 + c) - bi b)) (show c < 6 by omega)
        have x3 := svn5 (σ := (upA τ.1 2 (upd (τ.1 2) k (s8_lesser 99 (stV τ 1 k + mnI ρ k 3))), τ.2)) (w := τ.2) (x := s8_lesser 99 (stV τ 1 (30 + c) + 1)) (show c < 6 by omega)
        have x4 := svn0 (σ := τ) (w := τ.2) (x := s8_lesser 99 (stV τ 1 k + mnI ρ k 3)) (show k < 6 by omega)
        rw [x4] at x3
        have x3' : stV (upA (upA τ.1 2 (upd (τ.1 2) k (s8_lesser 99 (stV τ 1 k + mnI ρ k 3)))) 7 (upd (τ.1 7) c (s8_lesser 99 (stV τ 1 (30 + c) + 1))), τ.2) 1 = _ := x3
        rw [x3'] at x2
        have x2' : stV (upA (upA (upA τ.1 2 (upd (τ.1 2) k (s8_lesser 99 (stV τ 1 k + mnI ρ k 3)))) 7 (upd (τ.1 7) c (s8_lesser 99 (stV τ 1 (30 + c) + 1)))) 5 (upd (τ.1 5) c (s8_greater 0 (stV τ 1 (18 + c) - bi b))), τ.2) 1 = _ := x2
        rw [x2'] at x1
        exact x1
      · refine gc_X2_goOnn_2 ⟨fun q => absurd q (nI_ge hk (by omega)), fun _ => ⟨vin (by omega) (by decide), vin hk (by omega), fun _ => ⟨by rw [ck, ew]; exact vin (by omega) (by decide), ?_⟩, fun q => absurd (by rw [ck, ew]; exact hpos) q⟩⟩
        refine gc_X2_goOnn_105_5 ⟨by rw [ck, ew]; exact vin (by omega) (by decide), by rw [ck, ew]; exact vin (by omega) (by decide), ?_⟩
        rw [ck, ew, cc, rdn0 (by omega), rdn5 (show c < 6 by omega), rdn3 (show c < 6 by omega), min_l, min_l, max_g, max_g, nI_1, bi_if01]
        have e12 : (upA (upA τ.1 2 (upd (τ.1 2) k (s8_lesser 99 (stV τ 1 k + mnI ρ k 3)))) 7 (upd (τ.1 7) c (s8_lesser 99 (stV τ 1 (30 + c) + 1)))) 4 c = stV τ 1 (12 + c) := by
          rw [upA_n (by decide), upA_n (by decide), rdn2 (by omega)]
        have e4 : (upA (upA τ.1 2 (upd (τ.1 2) k (s8_lesser 99 (stV τ 1 k + mnI ρ k 3)))) 7 (upd (τ.1 7) c (s8_lesser 99 (stV τ 1 (30 + c) + 1)))) 5 = τ.1 5 := by
          rw [upA_n (by decide), upA_n (by decide)]
        have e3 : (upA (upA τ.1 2 (upd (τ.1 2) k (s8_lesser 99 (stV τ 1 k + mnI ρ k 3)))) 7 (upd (τ.1 7) c (s8_lesser 99 (stV τ 1 (30 + c) + 1)))) 4 = τ.1 4 := by
          rw [upA_n (by decide), upA_n (by decide)]
        dsimp only
        rw [e12, e4, e3]
        exact hh) 0 () σ (Nat.zero_le _) ⟨kc.rf, rfl⟩
  rw [cgo_gd h6 h6c hW hu] at a2
  -- the day's number
  have c1 : kc dpln σ (upA τ1.1 1 (upd (τ1.1 1) 7 (τ1.1 1 7 + 1)), τ1.2) := a1.up (o := 1) (by decide) _
  have c2 : stV (upA τ1.1 1 (upd (τ1.1 1) 7 (τ1.1 1 7 + 1)), τ1.2) 1 = midV (fun m => mnI ρ m 3) (bi b) (ρ.1 0) (ρ.1 1) (stV σ 1) := by
    rw [svn7, rdn7, a2]
    rfl
  have hmid : okW (midV (fun m => mnI ρ m 3) (bi b) (ρ.1 0) (ρ.1 1) (stV σ 1)) (ρ.1 0) (ρ.1 1) := midV_ok h6 h6c hW
  have hmr : rgV (midV (fun m => mnI ρ m 3) (bi b) (ρ.1 0) (ρ.1 1) (stV σ 1)) (ρ.1 0) (ρ.1 1) := mid_rg (ρ := ρ) h6 h6c hG hr
  have c3 := dresCn (d + 302) (ρ := ρ) (E := E) (A := A) (σ := (upA τ1.1 1 (upd (τ1.1 1) 7 (τ1.1 1 7 + 1)), τ1.2)) (nm := ρ.1 0) h6 (by rw [c2]; exact mid_nob h6 h6c hn)
  obtain ⟨τ3, d1, d2⟩ := fittCn d (E := E) (A := A) (σ := (upA τ1.1 1 (upd (τ1.1 1) 7 (τ1.1 1 7 + 1)), τ1.2)) hT (by rw [c2]; exact hmr) (by rw [c2]; exact hmid)
  have d3 : kc dpln σ τ3 := c1.tr (d2.mo (by decide))
  have d4 : stV τ3 1 = midV (fun m => mnI ρ m 3) (bi b) (ρ.1 0) (ρ.1 1) (stV σ 1) := by rw [stV_kc d2 (by decide)]; exact c2
  have eo : wearers8 (stV (upA τ1.1 1 (upd (τ1.1 1) 7 (τ1.1 1 7 + 1)), τ1.2) 1) (ρ.1 0) &&& (set8 (ownE (eC ρ) (stV (upA τ1.1 1 (upd (τ1.1 1) 7 (τ1.1 1 7 + 1)), τ1.2) 1)) (ρ.1 0) ^^^ (-1)) = dayO (eC ρ) (fun m => mnI ρ m 3) (bi b) (ρ.1 0) (ρ.1 1) (stV σ 1) := by
    rw [c2]
    rfl
  obtain ⟨_, τ4, ⟨f1, f2⟩, f3⟩ := iterC (T := Unit) (fun k _ τ r σ1 => Rv ρ E A mX2_goOn (d + 304) 0 0 170 [.ref (A 1), .ref (ρ.1 2), .int (bi b), .int (dayO (eC ρ) (fun m => mnI ρ m 3) (bi b) (ρ.1 0) (ρ.1 1) (stV σ 1)), .int (nI k)] [] τ r σ1) (fun k _ τ => kc dpln σ τ ∧ stV τ 1 = gd4 (dayO (eC ρ) (fun m => mnI ρ m 3) (bi b) (ρ.1 0) (ρ.1 1) (stV σ 1)) (midV (fun m => mnI ρ m 3) (bi b) (ρ.1 0) (ρ.1 1) (stV σ 1)) k) (ρ.1 0) (by
    rintro k ⟨⟩ τ hk ⟨q1, q2⟩
    have ck : (nI k).toNatClampNeg = k := cl (by omega)
    by_cases hb : ((dayO (eC ρ) (fun m => mnI ρ m 3) (bi b) (ρ.1 0) (ρ.1 1) (stV σ 1) >>> (nI k &&& 31)) &&& 1) = 1
    · refine ⟨(), (upA τ.1 3 (upd (τ.1 3) k (-1)), τ.2), ⟨q1.up (o := 3) (by decide) _, ?_⟩, fun r σ1 h => ?_⟩
      · rw [svn1 (by omega), q2]
        show _ = (if _ then _ else _)
        rw [if_pos hb]
        rfl
      · refine gc_X2_goOnn_170 ⟨fun q => absurd q (nI_ge hk (by omega)), fun _ => ⟨fun q => absurd hb q, fun _ => ⟨vin (by omega) (by decide), ?_⟩⟩⟩
        rw [nI_1, ck]
        exact h
    · refine ⟨(), τ, ⟨q1, ?_⟩, fun r σ1 h => ?_⟩
      · show _ = (if _ then _ else _)
        rw [if_neg hb, q2]
        rfl
      · refine gc_X2_goOnn_170 ⟨fun q => absurd q (nI_ge hk (by omega)), fun _ => ⟨fun _ => ?_, fun q => absurd q hb⟩⟩
        rw [nI_1]
        exact h) 0 () τ3 (Nat.zero_le _) ⟨d3, d4⟩
  refine ⟨τ4, Tv.of [.ref (A 1), .ref (ρ.1 2), .int (bi b), U_, U_] (by decide) rfl (fun _ => Nat.le_of_ble_eq_true rfl) f1.1 (gc_X2_goOnn_0 (a3 _ _ (gc_X2_goOnn_2 ⟨fun _ => ⟨_, _, c3, _, _, d1, ?_⟩, fun q => absurd (nI_le (Nat.le_refl _) (by omega)) q⟩))), f1, f2⟩
  have f4 := f3 _ _ (gc_X2_goOnn_170 ⟨fun _ => ⟨rfl, rfl⟩, fun q => absurd (nI_le (Nat.le_refl _) (by omega)) q⟩)
  rw [← eo] at f4
  rw [← eo]
  exact f4
theorem earnCn (d : Nat) {ρ : Rho} {E : Hp → Prop} {A : Nat → Nat} {σ : Sg} (hT : tlV ρ) (hG : okG3 ρ) (hr : rgV (stV σ 1) (ρ.1 0) (ρ.1 1)) (hW : okW (stV σ 1) (ρ.1 0) (ρ.1 1)) (hn : nob (stV σ 1) (ρ.1 0)) (hu : unq (stV σ 1) (ρ.1 0)) :
    ∃ σ1, Tv ρ E A mX2_earnest (d + 305) 0 0 [.ref (A 1), .ref (ρ.1 2)] σ (some (.int (dayO (eC ρ) (fun m => mnI ρ m 3) (bi (drB (rgI ρ 12) (stV σ 1))) (ρ.1 0) (ρ.1 1) (drw (stV σ 1))))) σ1 ∧ kc dpln σ σ1 ∧ stV σ1 1 = dayV (eC ρ) (fun m => mnI ρ m 3) (bi (drB (rgI ρ 12) (stV σ 1))) (ρ.1 0) (ρ.1 1) (drw (stV σ 1)) := by
  have h6 := hT.1
  have h6c := hT.2.1
  have e1 : stV (upA σ.1 1 (upd (σ.1 1) 8 (sd8 (σ.1 1 8))), σ.2) 1 = drw (stV σ 1) := by
    rw [svn8, rdn8]
    rfl
  have k1 : kc dpln σ (upA σ.1 1 (upd (σ.1 1) 8 (sd8 (σ.1 1 8))), σ.2) := kc.rf.up (o := 1) (by decide) _
  have w1 : ∀ j, j < 36 → drw (stV σ 1) j = stV σ 1 j := fun j hj => by
    unfold drw
    rw [upd_n (by omega)]
  obtain ⟨σ1, q1, q2, q3⟩ := goCn d (E := E) (A := A) (σ := (upA σ.1 1 (upd (σ.1 1) 8 (sd8 (σ.1 1 8))), σ.2)) (drB (rgI ρ 12) (stV σ 1)) hT hG
    (by rw [e1]; exact ⟨fun m hm => by rw [w1 _ (by omega)]; exact hr.1 m hm, fun c hc => by rw [w1 _ (by omega), w1 _ (by omega), w1 _ (by omega), w1 _ (by omega)]; exact hr.2 c hc⟩)
    (by rw [e1]; exact okW_drw h6 hW)
    (by rw [e1]; intro m h1 h2; rw [w1 _ (by omega)]; exact hn m h1 h2)
    (by rw [e1]; intro m o hm ho; rw [w1 _ (by omega), w1 _ (by omega)]; exact hu m o hm ho)
  rw [e1] at q1 q3
  refine ⟨σ1, Tv.of [.ref (A 1), .ref (ρ.1 2)] (by decide) rfl (fun _ => Nat.le_of_ble_eq_true rfl) (q1.1.trans rfl) (gc_X2_earnestn_0 ⟨_, _, ?_, rfl, rfl⟩), k1.tr q2, q3⟩
  have es : ((137 * (σ.1 1 8)) + 71) - ((137 * (σ.1 1 8)) + 71) / 1000 * 1000 = sd8 (σ.1 1 8) := by
    unfold sd8
    rw [Int32.mul_comm]
  rw [es, bi_ifn]
  have eb : decide (¬ (rgI ρ 12) ≤ sd8 (σ.1 1 8) - sd8 (σ.1 1 8) / 100 * 100) = drB (rgI ρ 12) (stV σ 1) := by
    unfold drB rn8
    rw [rdn8]
  rw [eb]
  exact q1
theorem exchCn (d : Nat) {ρ : Rho} {E : Hp → Prop} {A : Nat → Nat} {σ : Sg} {m o : Nat} (hm : m < 6) (ho : o < 6) : ∃ σ1, Tv ρ E A mX2_exchange (d + 1) 0 0 [.ref (A 1), .int (nI m), .int (nI o)] σ none σ1 ∧ kc [3] σ σ1 ∧ stV σ1 1 = upd (upd (stV σ 1) (6 + m) (stV σ 1 (6 + o))) (6 + o) (stV σ 1 (6 + m)) := by
  have cm : (nI m).toNatClampNeg = m := cl (by omega)
  have co : (nI o).toNatClampNeg = o := cl (by omega)
  refine ⟨(upA σ.1 3 (upd (upd (σ.1 3) m (σ.1 3 o)) o (σ.1 3 m)), σ.2), Tv.of [.ref (A 1), .int (nI m), .int (nI o), U_] (by decide) rfl (fun _ => Nat.le_of_ble_eq_true rfl) rfl (gc_X2_exchangen_0 ⟨vin hm (by decide), vin ho (by decide), rfl, by rw [cm, co]⟩), kc.rf.up (o := 3) (by decide) _, ?_⟩
  have x1 := svn1 (σ := (upA σ.1 3 (upd (σ.1 3) m (σ.1 3 o)), σ.2)) (w := σ.2) (x := σ.1 3 m) ho
  have x2 := svn1 (σ := σ) (w := σ.2) (x := σ.1 3 o) hm
  rw [x2] at x1
  have e : (upA (upA σ.1 3 (upd (σ.1 3) m (σ.1 3 o))) 3 (upd (upA σ.1 3 (upd (σ.1 3) m (σ.1 3 o)) 3) o (σ.1 3 m)), σ.2) = ((upA σ.1 3 (upd (upd (σ.1 3) m (σ.1 3 o)) o (σ.1 3 m)), σ.2) : Sg) := by rw [upA_upA, upA_s]
  have x1' : stV (upA (upA σ.1 3 (upd (σ.1 3) m (σ.1 3 o))) 3 (upd (upA σ.1 3 (upd (σ.1 3) m (σ.1 3 o)) 3) o (σ.1 3 m)), σ.2) 1 = _ := x1
  rw [e] at x1'
  rw [x1', rdn1 hm, rdn1 ho]
/-- places that a day in the state changes -/
def dplt : List Nat := [8, 9, 10, 11, 12, 13, 14, 30]
theorem goCt (d : Nat) {ρ : Rho} {E : Hp → Prop} {A : Nat → Nat} {σ : Sg} (b : Bool) (hT : tlV ρ) (hG : okG3 ρ) (hr : rgV (stV σ 8) (ρ.1 0) (ρ.1 1)) (hW : okW (stV σ 8) (ρ.1 0) (ρ.1 1)) (hn : nob (stV σ 8) (ρ.1 0)) (hu : unq (stV σ 8) (ρ.1 0)) :
    ∃ σ1, Tv ρ E A mX2_goOn (d + 304) 0 0 [.ref (A 8), .ref (ρ.1 2), .int (bi b)] σ (some (.int (dayO (eC ρ) (fun m => mnI ρ m 3) (bi b) (ρ.1 0) (ρ.1 1) (stV σ 8)))) σ1 ∧ kc dplt σ σ1 ∧ stV σ1 8 = dayV (eC ρ) (fun m => mnI ρ m 3) (bi b) (ρ.1 0) (ρ.1 1) (stV σ 8) := by
  have h6 := hT.1
  have h6c := hT.2.1
  obtain ⟨_, τ1, ⟨a1, a2⟩, a3⟩ := iterC (T := Unit) (fun k _ τ r σ1 => Rv ρ E A mX2_goOn (d + 304) 0 0 2 [.ref (A 8), .ref (ρ.1 2), .int (bi b), .int (nI k), U_] [] τ r σ1) (fun k _ τ => kc dplt σ τ ∧ stV τ 8 = cgo (fun m => mnI ρ m 3) (bi b) (stV σ 8) k) (ρ.1 0) (by
    rintro k ⟨⟩ τ hk ⟨q1, q2⟩
    have ck : (nI k).toNatClampNeg = k := cl (by omega)
    have ek : stV τ 8 (6 + k) = stV σ 8 (6 + k) := by
      rw [q2, cgo_at h6 h6c hW hu k (by omega)]
      unfold cgf
      rw [if_neg (by omega), if_pos (by omega)]
    have hs : cgo (fun m => mnI ρ m 3) (bi b) (stV σ 8) (k + 1) = cg1 (fun m => mnI ρ m 3) (bi b) k (stV τ 8) := by rw [q2]; rfl
    rcases hW k hk with h | ⟨c, hc, h⟩
    · refine ⟨(), (upA τ.1 9 (upd (τ.1 9) k (s8_lesser 99 (stV τ 8 k + mnI ρ k 3))), τ.2), ⟨q1.up (o := 9) (by decide) _, ?_⟩, fun r σ1 hh => ?_⟩
      · rw [hs, svt0 (by omega)]
        unfold cg1
        rw [ek, h, if_neg (by decide)]
      · refine gc_X2_goOnt_2 ⟨fun q => absurd q (nI_ge hk (by omega)), fun _ => ⟨vin (by omega) (by decide), vin hk (by omega), fun q => absurd q (by rw [ck, rdt1 (by omega), ek, h]; decide), fun _ => ?_⟩⟩
        rw [ck, rdt0 (by omega), min_l, nI_1]
        exact hh
    · have hpos : (0 : Int32) ≤ nI c := nI_pos' (by omega)
      have cc : (nI c).toNatClampNeg = c := cl (by omega)
      have ew : τ.1 10 k = nI c := by rw [rdt1 (by omega), ek, h]
      refine ⟨(), (upA (upA (upA (upA τ.1 9 (upd (τ.1 9) k (s8_lesser 99 (stV τ 8 k + mnI ρ k 3)))) 14 (upd (τ.1 14) c (s8_lesser 99 (stV τ 8 (30 + c) + 1)))) 12 (upd (τ.1 12) c (s8_greater 0 (stV τ 8 (18 + c) - bi b)))) 11 (upd (τ.1 11) c (s8_greater 0 (stV τ 8 (12 + c) - bi b))), τ.2), ⟨?_, ?_⟩, fun r σ1 hh => ?_⟩
      · exact (((q1.up (o := 9) (by decide) _).up (o := 14) (by decide) _).up (o := 12) (by decide) _).up (o := 11) (by decide) _
      · rw [hs]
        unfold cg1
        rw [ek, h, if_pos hpos, cc]
        have x1 := svt2 (σ := (upA (upA (upA τ.1 9 (upd (τ.1 9) k (s8_lesser 99 (stV τ 8 k + mnI ρ k 3)))) 14 (upd (τ.1 14) c (s8_lesser 99 (stV τ 8 (30 + c) + 1)))) 12 (upd (τ.1 12) c (s8_greater 0 (stV τ 8 (18 + c) - bi b))), τ.2)) (w := τ.2) (x := s8_greater 0 (stV τ 8 (12 + c) - bi b)) (show c < 6 by omega)
        have x2 := svt3 (σ := (upA (upA τ.1 9 (upd (τ.1 9) k (s8_lesser 99 (stV τ 8 k + mnI ρ k 3)))) 14 (upd (τ.1 14) c (s8_lesser 99 (stV τ 8 (30 + c) + 1))), τ.2)) (w := τ.2) (x := s8_greater 0 (stV τ 8 (18 + c) - bi b)) (show c < 6 by omega)
        have x3 := svt5 (σ := (upA τ.1 9 (upd (τ.1 9) k (s8_lesser 99 (stV τ 8 k + mnI ρ k 3))), τ.2)) (w := τ.2) (x := s8_lesser 99 (stV τ 8 (30 + c) + 1)) (show c < 6 by omega)
        have x4 := svt0 (σ := τ) (w := τ.2) (x := s8_lesser 99 (stV τ 8 k + mnI ρ k 3)) (show k < 6 by omega)
        rw [x4] at x3
        have x3' : stV (upA (upA τ.1 9 (upd (τ.1 9) k (s8_lesser 99 (stV τ 8 k + mnI ρ k 3)))) 14 (upd (τ.1 14) c (s8_lesser 99 (stV τ 8 (30 + c) + 1))), τ.2) 8 = _ := x3
        rw [x3'] at x2
        have x2' : stV (upA (upA (upA τ.1 9 (upd (τ.1 9) k (s8_lesser 99 (stV τ 8 k + mnI ρ k 3)))) 14 (upd (τ.1 14) c (s8_lesser 99 (stV τ 8 (30 + c) + 1)))) 12 (upd (τ.1 12) c (s8_greater 0 (stV τ 8 (18 + c) - bi b))), τ.2) 8 = _ := x2
        rw [x2'] at x1
        exact x1
      · refine gc_X2_goOnt_2 ⟨fun q => absurd q (nI_ge hk (by omega)), fun _ => ⟨vin (by omega) (by decide), vin hk (by omega), fun _ => ⟨by rw [ck, ew]; exact vin (by omega) (by decide), ?_⟩, fun q => absurd (by rw [ck, ew]; exact hpos) q⟩⟩
        refine gc_X2_goOnt_105_5 ⟨by rw [ck, ew]; exact vin (by omega) (by decide), by rw [ck, ew]; exact vin (by omega) (by decide), ?_⟩
        rw [ck, ew, cc, rdt0 (by omega), rdt5 (show c < 6 by omega), rdt3 (show c < 6 by omega), min_l, min_l, max_g, max_g, nI_1, bi_if01]
        have e12 : (upA (upA τ.1 9 (upd (τ.1 9) k (s8_lesser 99 (stV τ 8 k + mnI ρ k 3)))) 14 (upd (τ.1 14) c (s8_lesser 99 (stV τ 8 (30 + c) + 1)))) 11 c = stV τ 8 (12 + c) := by
          rw [upA_n (by decide), upA_n (by decide), rdt2 (by omega)]
        have e4 : (upA (upA τ.1 9 (upd (τ.1 9) k (s8_lesser 99 (stV τ 8 k + mnI ρ k 3)))) 14 (upd (τ.1 14) c (s8_lesser 99 (stV τ 8 (30 + c) + 1)))) 12 = τ.1 12 := by
          rw [upA_n (by decide), upA_n (by decide)]
        have e3 : (upA (upA τ.1 9 (upd (τ.1 9) k (s8_lesser 99 (stV τ 8 k + mnI ρ k 3)))) 14 (upd (τ.1 14) c (s8_lesser 99 (stV τ 8 (30 + c) + 1)))) 11 = τ.1 11 := by
          rw [upA_n (by decide), upA_n (by decide)]
        dsimp only
        rw [e12, e4, e3]
        exact hh) 0 () σ (Nat.zero_le _) ⟨kc.rf, rfl⟩
  rw [cgo_gd h6 h6c hW hu] at a2
  -- the day's number
  have c1 : kc dplt σ (upA τ1.1 8 (upd (τ1.1 8) 7 (τ1.1 8 7 + 1)), τ1.2) := a1.up (o := 8) (by decide) _
  have c2 : stV (upA τ1.1 8 (upd (τ1.1 8) 7 (τ1.1 8 7 + 1)), τ1.2) 8 = midV (fun m => mnI ρ m 3) (bi b) (ρ.1 0) (ρ.1 1) (stV σ 8) := by
    rw [svt7, rdt7, a2]
    rfl
  have hmid : okW (midV (fun m => mnI ρ m 3) (bi b) (ρ.1 0) (ρ.1 1) (stV σ 8)) (ρ.1 0) (ρ.1 1) := midV_ok h6 h6c hW
  have hmr : rgV (midV (fun m => mnI ρ m 3) (bi b) (ρ.1 0) (ρ.1 1) (stV σ 8)) (ρ.1 0) (ρ.1 1) := mid_rg (ρ := ρ) h6 h6c hG hr
  have c3 := dresCt (d + 302) (ρ := ρ) (E := E) (A := A) (σ := (upA τ1.1 8 (upd (τ1.1 8) 7 (τ1.1 8 7 + 1)), τ1.2)) (nm := ρ.1 0) h6 (by rw [c2]; exact mid_nob h6 h6c hn)
  obtain ⟨τ3, d1, d2⟩ := fittCt d (E := E) (A := A) (σ := (upA τ1.1 8 (upd (τ1.1 8) 7 (τ1.1 8 7 + 1)), τ1.2)) hT (by rw [c2]; exact hmr) (by rw [c2]; exact hmid)
  have d3 : kc dplt σ τ3 := c1.tr (d2.mo (by decide))
  have d4 : stV τ3 8 = midV (fun m => mnI ρ m 3) (bi b) (ρ.1 0) (ρ.1 1) (stV σ 8) := by rw [stV_kc d2 (by decide)]; exact c2
  have eo : wearers8 (stV (upA τ1.1 8 (upd (τ1.1 8) 7 (τ1.1 8 7 + 1)), τ1.2) 8) (ρ.1 0) &&& (set8 (ownE (eC ρ) (stV (upA τ1.1 8 (upd (τ1.1 8) 7 (τ1.1 8 7 + 1)), τ1.2) 8)) (ρ.1 0) ^^^ (-1)) = dayO (eC ρ) (fun m => mnI ρ m 3) (bi b) (ρ.1 0) (ρ.1 1) (stV σ 8) := by
    rw [c2]
    rfl
  obtain ⟨_, τ4, ⟨f1, f2⟩, f3⟩ := iterC (T := Unit) (fun k _ τ r σ1 => Rv ρ E A mX2_goOn (d + 304) 0 0 170 [.ref (A 8), .ref (ρ.1 2), .int (bi b), .int (dayO (eC ρ) (fun m => mnI ρ m 3) (bi b) (ρ.1 0) (ρ.1 1) (stV σ 8)), .int (nI k)] [] τ r σ1) (fun k _ τ => kc dplt σ τ ∧ stV τ 8 = gd4 (dayO (eC ρ) (fun m => mnI ρ m 3) (bi b) (ρ.1 0) (ρ.1 1) (stV σ 8)) (midV (fun m => mnI ρ m 3) (bi b) (ρ.1 0) (ρ.1 1) (stV σ 8)) k) (ρ.1 0) (by
    rintro k ⟨⟩ τ hk ⟨q1, q2⟩
    have ck : (nI k).toNatClampNeg = k := cl (by omega)
    by_cases hb : ((dayO (eC ρ) (fun m => mnI ρ m 3) (bi b) (ρ.1 0) (ρ.1 1) (stV σ 8) >>> (nI k &&& 31)) &&& 1) = 1
    · refine ⟨(), (upA τ.1 10 (upd (τ.1 10) k (-1)), τ.2), ⟨q1.up (o := 10) (by decide) _, ?_⟩, fun r σ1 h => ?_⟩
      · rw [svt1 (by omega), q2]
        show _ = (if _ then _ else _)
        rw [if_pos hb]
        rfl
      · refine gc_X2_goOnt_170 ⟨fun q => absurd q (nI_ge hk (by omega)), fun _ => ⟨fun q => absurd hb q, fun _ => ⟨vin (by omega) (by decide), ?_⟩⟩⟩
        rw [nI_1, ck]
        exact h
    · refine ⟨(), τ, ⟨q1, ?_⟩, fun r σ1 h => ?_⟩
      · show _ = (if _ then _ else _)
        rw [if_neg hb, q2]
        rfl
      · refine gc_X2_goOnt_170 ⟨fun q => absurd q (nI_ge hk (by omega)), fun _ => ⟨fun _ => ?_, fun q => absurd q hb⟩⟩
        rw [nI_1]
        exact h) 0 () τ3 (Nat.zero_le _) ⟨d3, d4⟩
  refine ⟨τ4, Tv.of [.ref (A 8), .ref (ρ.1 2), .int (bi b), U_, U_] (by decide) rfl (fun _ => Nat.le_of_ble_eq_true rfl) f1.1 (gc_X2_goOnt_0 (a3 _ _ (gc_X2_goOnt_2 ⟨fun _ => ⟨_, _, c3, _, _, d1, ?_⟩, fun q => absurd (nI_le (Nat.le_refl _) (by omega)) q⟩))), f1, f2⟩
  have f4 := f3 _ _ (gc_X2_goOnt_170 ⟨fun _ => ⟨rfl, rfl⟩, fun q => absurd (nI_le (Nat.le_refl _) (by omega)) q⟩)
  rw [← eo] at f4
  rw [← eo]
  exact f4
theorem earnCt (d : Nat) {ρ : Rho} {E : Hp → Prop} {A : Nat → Nat} {σ : Sg} (hT : tlV ρ) (hG : okG3 ρ) (hr : rgV (stV σ 8) (ρ.1 0) (ρ.1 1)) (hW : okW (stV σ 8) (ρ.1 0) (ρ.1 1)) (hn : nob (stV σ 8) (ρ.1 0)) (hu : unq (stV σ 8) (ρ.1 0)) :
    ∃ σ1, Tv ρ E A mX2_earnest (d + 305) 0 0 [.ref (A 8), .ref (ρ.1 2)] σ (some (.int (dayO (eC ρ) (fun m => mnI ρ m 3) (bi (drB (rgI ρ 12) (stV σ 8))) (ρ.1 0) (ρ.1 1) (drw (stV σ 8))))) σ1 ∧ kc dplt σ σ1 ∧ stV σ1 8 = dayV (eC ρ) (fun m => mnI ρ m 3) (bi (drB (rgI ρ 12) (stV σ 8))) (ρ.1 0) (ρ.1 1) (drw (stV σ 8)) := by
  have h6 := hT.1
  have h6c := hT.2.1
  have e1 : stV (upA σ.1 8 (upd (σ.1 8) 8 (sd8 (σ.1 8 8))), σ.2) 8 = drw (stV σ 8) := by
    rw [svt8, rdt8]
    rfl
  have k1 : kc dplt σ (upA σ.1 8 (upd (σ.1 8) 8 (sd8 (σ.1 8 8))), σ.2) := kc.rf.up (o := 8) (by decide) _
  have w1 : ∀ j, j < 36 → drw (stV σ 8) j = stV σ 8 j := fun j hj => by
    unfold drw
    rw [upd_n (by omega)]
  obtain ⟨σ1, q1, q2, q3⟩ := goCt d (E := E) (A := A) (σ := (upA σ.1 8 (upd (σ.1 8) 8 (sd8 (σ.1 8 8))), σ.2)) (drB (rgI ρ 12) (stV σ 8)) hT hG
    (by rw [e1]; exact ⟨fun m hm => by rw [w1 _ (by omega)]; exact hr.1 m hm, fun c hc => by rw [w1 _ (by omega), w1 _ (by omega), w1 _ (by omega), w1 _ (by omega)]; exact hr.2 c hc⟩)
    (by rw [e1]; exact okW_drw h6 hW)
    (by rw [e1]; intro m h1 h2; rw [w1 _ (by omega)]; exact hn m h1 h2)
    (by rw [e1]; intro m o hm ho; rw [w1 _ (by omega), w1 _ (by omega)]; exact hu m o hm ho)
  rw [e1] at q1 q3
  refine ⟨σ1, Tv.of [.ref (A 8), .ref (ρ.1 2)] (by decide) rfl (fun _ => Nat.le_of_ble_eq_true rfl) (q1.1.trans rfl) (gc_X2_earnestt_0 ⟨_, _, ?_, rfl, rfl⟩), k1.tr q2, q3⟩
  have es : ((137 * (σ.1 8 8)) + 71) - ((137 * (σ.1 8 8)) + 71) / 1000 * 1000 = sd8 (σ.1 8 8) := by
    unfold sd8
    rw [Int32.mul_comm]
  rw [es, bi_ifn]
  have eb : decide (¬ (rgI ρ 12) ≤ sd8 (σ.1 8 8) - sd8 (σ.1 8 8) / 100 * 100) = drB (rgI ρ 12) (stV σ 8) := by
    unfold drB rn8
    rw [rdt8]
  rw [eb]
  exact q1
theorem exchCt (d : Nat) {ρ : Rho} {E : Hp → Prop} {A : Nat → Nat} {σ : Sg} {m o : Nat} (hm : m < 6) (ho : o < 6) : ∃ σ1, Tv ρ E A mX2_exchange (d + 1) 0 0 [.ref (A 8), .int (nI m), .int (nI o)] σ none σ1 ∧ kc [10] σ σ1 ∧ stV σ1 8 = upd (upd (stV σ 8) (6 + m) (stV σ 8 (6 + o))) (6 + o) (stV σ 8 (6 + m)) := by
  have cm : (nI m).toNatClampNeg = m := cl (by omega)
  have co : (nI o).toNatClampNeg = o := cl (by omega)
  refine ⟨(upA σ.1 10 (upd (upd (σ.1 10) m (σ.1 10 o)) o (σ.1 10 m)), σ.2), Tv.of [.ref (A 8), .int (nI m), .int (nI o), U_] (by decide) rfl (fun _ => Nat.le_of_ble_eq_true rfl) rfl (gc_X2_exchanget_0 ⟨vin hm (by decide), vin ho (by decide), rfl, by rw [cm, co]⟩), kc.rf.up (o := 10) (by decide) _, ?_⟩
  have x1 := svt1 (σ := (upA σ.1 10 (upd (σ.1 10) m (σ.1 10 o)), σ.2)) (w := σ.2) (x := σ.1 10 m) ho
  have x2 := svt1 (σ := σ) (w := σ.2) (x := σ.1 10 o) hm
  rw [x2] at x1
  have e : (upA (upA σ.1 10 (upd (σ.1 10) m (σ.1 10 o))) 10 (upd (upA σ.1 10 (upd (σ.1 10) m (σ.1 10 o)) 10) o (σ.1 10 m)), σ.2) = ((upA σ.1 10 (upd (upd (σ.1 10) m (σ.1 10 o)) o (σ.1 10 m)), σ.2) : Sg) := by rw [upA_upA, upA_s]
  have x1' : stV (upA (upA σ.1 10 (upd (σ.1 10) m (σ.1 10 o))) 10 (upd (upA σ.1 10 (upd (σ.1 10) m (σ.1 10 o)) 10) o (σ.1 10 m)), σ.2) 8 = _ := x1
  rw [e] at x1'
  rw [x1', rdt1 hm, rdt1 ho]
