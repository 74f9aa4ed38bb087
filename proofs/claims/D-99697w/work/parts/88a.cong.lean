/-! what is computed hangs on what lies within bounds alone -/
set_option maxRecDepth 100000
/-- two vectors agree (wears of men that aren't there don't count) -/
def agv (nm : Nat) (u v : Nat → Int32) : Prop := ∀ j, j < 39 → (j < 6 + nm ∨ 12 ≤ j) → u j = v j
/-- two formulas agree -/
def agE (nm : Nat) (e e' : E8) : Prop := e.1 = e'.1 ∧ e.2.1 = e'.2.1 ∧ (∀ k, k < e.2.1 → e.2.2.1 k = e'.2.2.1 k ∧ e.2.2.2.1 k = e'.2.2.2.1 k) ∧ (∀ m, m < nm → e.2.2.2.2.1 m = e'.2.2.2.2.1 m) ∧ e.2.2.2.2.2 = e'.2.2.2.2.2
theorem agE.rf {nm : Nat} {e : E8} : agE nm e e := ⟨rfl, rfl, fun _ _ => ⟨rfl, rfl⟩, fun _ _ => rfl, rfl⟩
section Cg
variable {nm nc : Nat} {u v : Nat → Int32} {e e' : E8}
theorem agv.rf : agv nm v v := fun _ _ _ => rfl
theorem agv.of (h : ∀ j, j < 39 → u j = v j) : agv nm u v := fun j hj _ => h j hj
theorem agv.sy (h : agv nm u v) : agv nm v u := fun j hj q => (h j hj q).symm
theorem agv.tr {w : Nat → Int32} (h : agv nm u v) (h2 : agv nm v w) : agv nm u w := fun j hj q => (h j hj q).trans (h2 j hj q)
theorem agv.up (h : agv nm u v) (j : Nat) {x y : Int32} (hx : x = y) : agv nm (upd u j x) (upd v j y) := by
  subst hx
  intro q hq hq2
  by_cases e : q = j
  · subst e; rw [upd_s, upd_s]
  · rw [upd_n e, upd_n e]; exact h q hq hq2
theorem acc8_rel {A B : Type} {f : Nat → A → A} {g : Nat → B → B} (Q : A → B → Prop) : ∀ (n : Nat) {a : A} {b : B}, Q a b → (∀ k a b, k < n → Q a b → Q (f k a) (g k b)) → Q (acc8 f a n) (acc8 g b n) := by
  intro n
  induction n with
  | zero => intro a b h _; exact h
  | succ n ih => intro a b h hs; exact hs n _ _ (by omega) (ih h (fun k a b hk => hs k a b (by omega)))
theorem acc8_cn {A : Type} {f g : Nat → A → A} (n : Nat) {a : A} (h : ∀ k a, k < n → f k a = g k a) : acc8 f a n = acc8 g a n :=
  acc8_rel (fun x y => x = y) n rfl (fun k a b hk e => by rw [e]; exact h k b hk)
theorem cnt8_cg {f g : Nat → Bool} {n : Nat} (h : ∀ k, k < n → f k = g k) : cnt8 f n = cnt8 g n := acc8_cn n (fun k a hk => by show _ + bi (f k) = _ + bi (g k); rw [h k hk])
theorem asks_cg {t t' : Nat → Int32} {m c : Nat} (h : agv nm u v) (hm : m < nm) (hm6 : m < 6) (hc : c < 6) (ht : t m = t' m) : asks8 t u m c = asks8 t' v m c := by
  funext q
  unfold asks8
  rw [h m (by omega) (by omega), h (18 + c) (by omega) (by omega), h (12 + c) (by omega) (by omega), h (30 + c) (by omega) (by omega), h 37 (by omega) (by omega), ht]
theorem rpn_cg {q S A S' A' : Nat → Int32} : ∀ n, (∀ k, k < n → S k = S' k ∧ A k = A' k) → rpn q S A n = rpn q S' A' n := by
  intro n
  induction n with
  | zero => intro _; rfl
  | succ n ih =>
    intro h
    show rpn1 q (S n) (A n) (rpn q S A n) = rpn1 q (S' n) (A' n) (rpn q S' A' n)
    rw [ih (fun k hk => h k (by omega)), (h n (by omega)).1, (h n (by omega)).2]
theorem mis_cg {m c : Nat} (he : agE nm e e') (h : agv nm u v) (hm : m < nm) (h6 : nm ≤ 6) (hc : c < 6) : misE e u m c = misE e' v m c := by
  unfold misE mis8
  rw [asks_cg h hm (by omega) hc (he.2.2.2.1 m hm), he.1, rpn_cg e.2.1 he.2.2.1, he.2.1, h m (by omega) (by omega), h (18 + c) (by omega) (by omega), h (12 + c) (by omega) (by omega), h (30 + c) (by omega) (by omega), he.2.2.2.1 m hm]
theorem fit_cg {m c : Nat} (he : agE nm e e') (h : agv nm u v) (hm : m < nm) (h6 : nm ≤ 6) (hc : c < 6) : fitE e u m c = fitE e' v m c := by
  unfold fitE
  rw [mis_cg he h hm h6 hc, he.2.2.2.2]
theorem own_cg {m : Nat} (he : agE nm e e') (h : agv nm u v) (hm : m < nm) (h6 : nm ≤ 6) (hc6 : nc ≤ 6) (hW : okW u nm nc) : ownE e u m = ownE e' v m := by
  unfold ownE
  rw [← h (6 + m) (by omega) (by omega)]
  rcases hW m hm with q | ⟨c, hc, q⟩
  · rw [q, if_pos (by decide), if_pos (by decide)]
  · rw [q, cl (by omega), fit_cg he h hm h6 (by omega)]
theorem ownI_cg {m : Nat} (he : agE nm e e') (h : agv nm u v) (hm : m < nm) (h6 : nm ≤ 6) (hc6 : nc ≤ 6) (hW : okW u nm nc) : ownI e u m = ownI e' v m := by
  unfold ownI
  rw [← h (6 + m) (by omega) (by omega)]
  rcases hW m hm with q | ⟨c, hc, q⟩
  · rw [q, if_pos (by decide), if_pos (by decide)]
  · rw [q, cl (by omega), mis_cg he h hm h6 (by omega)]
theorem owns_cg (he : agE nm e e') (h : agv nm u v) (h6 : nm ≤ 6) (hc6 : nc ≤ 6) (hW : okW u nm nc) : set8 (ownE e u) nm = set8 (ownE e' v) nm := set8_ext (fun k hk => own_cg he h hk h6 hc6 hW)
theorem fitN_cg (he : agE nm e e') (h : agv nm u v) (h6 : nm ≤ 6) (hc6 : nc ≤ 6) (hW : okW u nm nc) : fitN e u nm = fitN e' v nm := by
  unfold fitN
  rw [owns_cg he h h6 hc6 hW]
theorem wrs_cg (h : agv nm u v) (h6 : nm ≤ 6) : wearers8 u nm = wearers8 v nm := set8_ext (fun k hk => by show decide (0 ≤ u (6 + k)) = decide (0 ≤ v (6 + k)); rw [h (6 + k) (by omega) (by omega)])
theorem wr_cg (h : agv nm u v) (h6 : nm ≤ 6) (c : Int32) : wearer8 u c nm = wearer8 v c nm := wearer_congr (fun o ho => h (6 + o) (by omega) (by omega))
theorem okW_cg (h : agv nm u v) (h6 : nm ≤ 6) (hW : okW u nm nc) : okW v nm nc := fun m hm => by
  rw [← h (6 + m) (by omega) (by omega)]
  exact hW m hm
theorem rgV_cg (h : agv nm u v) (h6 : nm ≤ 6) (hc6 : nc ≤ 6) (hr : rgV u nm nc) : rgV v nm nc :=
  ⟨fun m hm => by rw [← h m (by omega) (by omega)]; exact hr.1 m hm, fun c hc => by
    rw [← h (12 + c) (by omega) (by omega), ← h (18 + c) (by omega) (by omega), ← h (24 + c) (by omega) (by omega), ← h (30 + c) (by omega) (by omega)]
    exact hr.2 c hc⟩
theorem unq_cg (h : agv nm u v) (h6 : nm ≤ 6) (hu : unq u nm) : unq v nm := fun m o hm ho => by
  rw [← h (6 + m) (by omega) (by omega), ← h (6 + o) (by omega) (by omega)]
  exact hu m o hm ho
theorem nob_of (h : ∀ j, j < 39 → u j = v j) (hn : nob u nm) : nob v nm := fun m h1 h2 => by
  rw [← h (6 + m) (by omega)]
  exact hn m h1 h2
theorem gd1_cg {g g' : Nat → Int32} (h : agv nm u v) (h6 : nm ≤ 6) (hg : ∀ m, m < nm → g m = g' m) : agv nm (gd1 g u nm) (gd1 g' v nm) :=
  acc8_rel (agv nm) nm h (fun k a b hk q => q.up k (by rw [q k (by omega) (by omega), hg k hk]))
theorem gdc_cg {t : Int32} {c : Nat} (h : agv nm u v) (hc : c < 6) : agv nm (gdc t c u) (gdc t c v) := by
  unfold gdc
  have q1 := h.up (30 + c) (x := s8_lesser 99 (u (30 + c) + 1)) (y := s8_lesser 99 (v (30 + c) + 1)) (by rw [h (30 + c) (by omega) (by omega)])
  have q2 := q1.up (12 + c) (x := s8_greater 0 ((upd u (30 + c) (s8_lesser 99 (u (30 + c) + 1))) (12 + c) - t)) (y := s8_greater 0 ((upd v (30 + c) (s8_lesser 99 (v (30 + c) + 1))) (12 + c) - t)) (by rw [q1 (12 + c) (by omega) (by omega)])
  exact q2.up (18 + c) (by rw [q2 (18 + c) (by omega) (by omega)])
theorem gd2_cg {t : Int32} (h : agv nm u v) (h6 : nm ≤ 6) (hc6 : nc ≤ 6) : agv nm (gd2 t nm u nc) (gd2 t nm v nc) :=
  acc8_rel (agv nm) nc h (fun k a b hk q => by
    show agv nm (if 0 ≤ wearer8 a (nI k) nm then gdc t k a else a) (if 0 ≤ wearer8 b (nI k) nm then gdc t k b else b)
    rw [wr_cg q h6]
    split
    · exact gdc_cg q (by omega)
    · exact q)
theorem mid_cg {g g' : Nat → Int32} {t : Int32} (h : agv nm u v) (h6 : nm ≤ 6) (hc6 : nc ≤ 6) (hg : ∀ m, m < nm → g m = g' m) : agv nm (midV g t nm nc u) (midV g' t nm nc v) := by
  have q := gd2_cg (t := t) (gd1_cg h h6 hg) h6 hc6
  exact q.up 37 (by rw [q 37 (by omega) (by omega)])
theorem mid_okW {g : Nat → Int32} {t : Int32} (h6 : nm ≤ 6) (hc6 : nc ≤ 6) (hW : okW u nm nc) : okW (midV g t nm nc u) nm nc := fun m hm => by
  rw [midV_w h6 hc6 (by omega) (by omega)]
  exact hW m hm
theorem dayO_cg {g g' : Nat → Int32} {t : Int32} (he : agE nm e e') (h : agv nm u v) (h6 : nm ≤ 6) (hc6 : nc ≤ 6) (hW : okW u nm nc) (hg : ∀ m, m < nm → g m = g' m) : dayO e g t nm nc u = dayO e' g' t nm nc v := by
  unfold dayO offE
  have q := mid_cg (t := t) h h6 hc6 hg
  rw [wrs_cg q h6, owns_cg he q h6 hc6 (mid_okW h6 hc6 hW)]
theorem dayV_cg {g g' : Nat → Int32} {t : Int32} (he : agE nm e e') (h : agv nm u v) (h6 : nm ≤ 6) (hc6 : nc ≤ 6) (hW : okW u nm nc) (hg : ∀ m, m < nm → g m = g' m) : agv nm (dayV e g t nm nc u) (dayV e' g' t nm nc v) := by
  unfold dayV
  rw [dayO_cg he h h6 hc6 hW hg]
  exact acc8_rel (agv nm) nm (mid_cg h h6 hc6 hg) (fun k a b hk q => by
    split
    · exact q.up _ rfl
    · exact q)
theorem drw_cg (h : agv nm u v) : agv nm (drw u) (drw v) := h.up 38 (by rw [h 38 (by omega) (by omega)])
theorem drB_cg (h : agv nm u v) (r : Int32) : drB r u = drB r v := by
  unfold drB
  rw [h 38 (by omega) (by omega)]
theorem goV_cg {g g' : Nat → Int32} {r what : Int32} (he : agE nm e e') (h : agv nm u v) (h6 : nm ≤ 6) (hc6 : nc ≤ 6) (hW : okW u nm nc) (hg : ∀ m, m < nm → g m = g' m) : ∀ k, agv nm (goV e g r what nm nc u k) (goV e' g' r what nm nc v k) := by
  intro k
  induction k with
  | zero => exact h
  | succ k ih =>
    have ok := goV_ok (e := e) (grows := g) (rain := r) (what := what) h6 hc6 hW k
    show agv nm (if what = 1 then _ else _) (if what = 1 then _ else _)
    split
    · rw [drB_cg ih]
      exact dayV_cg he (drw_cg ih) h6 hc6 (okW_drw h6 ok) hg
    · exact dayV_cg he ih h6 hc6 ok hg
theorem goV_rg {ρ : Rho} {g : Nat → Int32} {r what : Int32} (h6 : nm ≤ 6) (hc6 : nc ≤ 6) (hg : ∀ m, m < nm → okn (g m)) (hr : rgV u nm nc) (hn : nob u nm) (hu : unq u nm) : ∀ k, rgV (goV e g r what nm nc u k) nm nc ∧ nob (goV e g r what nm nc u k) nm ∧ unq (goV e g r what nm nc u k) nm := by
  intro k
  induction k with
  | zero => exact ⟨hr, hn, hu⟩
  | succ k ih =>
    obtain ⟨i1, i2, i3⟩ := ih
    show rgV (if what = 1 then _ else _) nm nc ∧ nob (if what = 1 then _ else _) nm ∧ unq (if what = 1 then _ else _) nm
    have hd : ∀ (w : Nat → Int32) (j : Nat), j ≠ 38 → drw w j = w j := fun w j hj => by unfold drw; rw [upd_n hj]
    split
    · refine ⟨day_rg h6 hc6 hg ⟨fun m hm => ?_, fun c hc => ?_⟩, day_nob h6 hc6 (fun m h1 h2 => ?_), day_unq h6 hc6 (fun m o hm ho => ?_)⟩
      · rw [hd _ _ (by omega)]; exact i1.1 m hm
      · rw [hd _ _ (by omega), hd _ _ (by omega), hd _ _ (by omega), hd _ _ (by omega)]; exact i1.2 c hc
      · rw [hd _ _ (by omega)]; exact i2 m h1 h2
      · rw [hd _ _ (by omega), hd _ _ (by omega)]; exact i3 m o hm ho
    · exact ⟨day_rg h6 hc6 hg i1, day_nob h6 hc6 i2, day_unq h6 hc6 i3⟩
end Cg
