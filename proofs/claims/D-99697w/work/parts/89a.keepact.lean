/-! the component: acts are kept (2) -/
set_option maxRecDepth 100000
section Ka
variable {G : Wd} {l : Launch} {hp : Hp} {ρ : Rho} {fr : Nat → Option va_E} {A : Nat → Nat} {D : Dn} {σ : Sg}
/-- the state with all three lists of the dynamic picture D, and what the region says: one world -/
def Wl (ρ : Rho) (fr : Nat → Option va_E) (A : Nat → Nat) (D : Dn) (σ : Sg) (hp : Hp) : Prop := Bs ρ (ED ρ fr A D) A hp ∧ sgOK D σ ∧ σ.2.2 0 0 = .ref (ρ.1 2) ∧ ρ.1 4 < hp.2 ∧ ρ.1 6 < hp.2
theorem sgOK.up {w ed cap n : Nat} {mc : Int32} {f : Nat → Option Nat} {el sa : Nat → Nat} {v : Nat → Nat → Int32} (hw : w < 3) (h : sgOK D σ) : sgOK (setL D w ed cap n f el sa v) (upLs σ (plc w) mc ed n) := by
  have pi : ∀ a b, a < 3 → b < 3 → plc a = plc b → a = b := by
    intro a b ha hb
    unfold plc
    split <;> split <;> omega
  refine ⟨fun q hq => ?_, fun b hb => ?_⟩
  · by_cases e : q = w
    · subst e
      rw [setL_row, setL_n]
      refine ⟨if_pos ⟨rfl, rfl⟩, ?_⟩
      show upA σ.1 (plc q) (upd (upd (σ.1 (plc q)) 0 mc) 2 (nI n)) (plc q) 2 = nI n
      rw [upA_s, upd_s]
    · obtain ⟨o1, o2, o3⟩ := setL_o (D := D) (ed := ed) (cap := cap) (n := n) (f := f) (el := el) (sa := sa) (v := v) e hq hw
      have hne : plc q ≠ plc w := fun z => e (pi q w hq hw z)
      rw [o1, o3]
      obtain ⟨h1, h2⟩ := h.1 q hq
      refine ⟨?_, ?_⟩
      · show (if plc q = plc w ∧ 1 = 1 then .ref ed else σ.2.2 (plc q) 1) = _
        rw [if_neg (fun z => hne z.1)]
        exact h1
      · show upA σ.1 (plc w) _ (plc q) 2 = _
        rw [upA_n hne]
        exact h2
  · show (if 27 + b = plc w ∧ 0 = 1 then .ref ed else σ.2.2 (27 + b) 0) = _
    rw [if_neg (fun z => absurd z.2 (by decide))]
    exact h.2 b hb
def upN (f : Nat → Nat) (k x : Nat) : Nat → Nat := fun i => if i = k then x else f i
theorem upN_s {f : Nat → Nat} {k x : Nat} : upN f k x k = x := if_pos rfl
theorem upN_n {f : Nat → Nat} {k x i : Nat} (h : i ≠ k) : upN f k x i = f i := if_neg h
def upV (f : Nat → Nat → Int32) (k : Nat) (x : Nat → Int32) : Nat → Nat → Int32 := fun i => if i = k then x else f i
theorem upV_s {f : Nat → Nat → Int32} {k : Nat} {x : Nat → Int32} : upV f k x k = x := if_pos rfl
theorem upV_n {f : Nat → Nat → Int32} {k i : Nat} {x : Nat → Int32} (h : i ≠ k) : upV f k x i = f i := if_neg h
/-- the rows of the regiment lie apart from the row of list w -/
theorem W_row {w : Nat} (hw : w < 3) (q : DynOK ρ A D hp) (hR : RegOK ρ A hp) : onlyW (fun i => i = dRow D w) hp ∧ (¬ (ρ.1 4 = dRow D w ∧ K0 ≤ ρ.1 4) ∧ ¬ (ρ.1 6 = dRow D w ∧ K0 ≤ ρ.1 6)) := by
  obtain ⟨q1, q2, q3, q4, q5, q6, q7, q8⟩ := q
  refine ⟨fun i hK hi z => ?_, fun z => ?_, fun z => ?_⟩
  · rcases (q1 w hw).2.2.1 with y | y
    · rw [z, y.1] at hK
      exact absurd hK (by decide)
    · rw [z, y.1.2.2.2]; rfl
  · by_cases e : dRow D w = 1
    · rw [z.1, e] at z
      exact absurd z.2 (by decide)
    · exact (q8 w hw e).1 z.1.symm
  · by_cases e : dRow D w = 1
    · rw [z.1, e] at z
      exact absurd z.2 (by decide)
    · exact (q8 w hw e).2 z.1.symm
theorem RegOK.w {w : Nat} {h : Hp} (hw : w < 3) (q : DynOK ρ A D hp) (hR : RegOK ρ A hp) (hx : xt (fun i => i = dRow D w) hp h) : RegOK ρ A h := by
  obtain ⟨w1, w2, w3⟩ := W_row hw q hR
  obtain ⟨r1, r2, r3, r4, r5⟩ := hR
  refine ⟨r1.k rfl hx w1, fun u hu => ?_, fun m hm => (r3 m hm).k rfl hx w1, fun m hm => (r4 m hm).k rfl hx w1, fun z hz => ⟨PartAt.k _ _ _ (r5 z hz).1 hx w1, (r5 z hz).2⟩⟩
  obtain ⟨a1, a2, a3, a4⟩ := r2 u hu
  refine ⟨a1.k rfl hx w1, a2, fun z => ⟨(a3 z).1.x hx (fun e => ?_), (a3 z).2⟩, a4⟩
  match u, hu with
  | 0, _ => exact w2 ⟨e, (a3 z).1.1⟩
  | 1, _ => exact w3 ⟨e, (a3 z).1.1⟩
theorem plc_0 {w : Nat} (hw : w < 3) : plc w ≠ 0 := by unfold plc; split <;> omega
theorem row_lt {w : Nat} (hw : w < 3) (q : DynOK ρ A D hp) (hK : K0 ≤ hp.2) : dRow D w < hp.2 := by
  rcases (q.1 w hw).2.2.1 with z | z
  · rw [z.1]; exact Nat.lt_of_lt_of_le (by decide) hK
  · exact z.1.2.1
theorem Wl_add {w x s : Nat} {v : Nat → Int32} (hw : w < 2) (hl : Wl ρ fr A D σ hp) (hx : atC A hp x (.inr (7, [.ref s]))) (hs : StAt A hp s v) (hf : ∀ q, q < 2 → ∀ i, i < dN D q → dEl D q i ≠ x) (hn : dN D w ≤ 40) {h : Hp} (ha : adC A D σ hp w x h) :
    ∃ ed cap f hp1, h = ov rgM A (upLs σ (plc w) (σ.1 (plc w) 0 + 1) ed (dN D w + 1)) hp1 ∧ Wl ρ fr A (setL D w ed cap (dN D w + 1) f (upN (dEl D w) (dN D w) x) (upN (dSa D w) (dN D w) s) (upV (D.2.2.2.1 w) (dN D w) v)) (upLs σ (plc w) (σ.1 (plc w) 0 + 1) ed (dN D w + 1)) hp1 ∧ ed = (if dN D w < dCap D w then dRow D w else hp.2) ∧ hp1.2 ≤ hp.2 + 1 ∧ hp.2 ≤ hp1.2 := by
  obtain ⟨⟨hA, hR, hE, hF⟩, hsg, hr, h4, h6⟩ := hl
  obtain ⟨ed, cap, f, hp1, e1, e2, e3, e4, e5, e6, e7, e8, e9⟩ := ha
  have hw3 : w < 3 := by omega
  have hK : K0 ≤ hp.2 := by have := hA.1 0 (by decide); omega
  obtain ⟨w1, -, -⟩ := W_row hw3 hE hR
  have hcap : cap ≤ 100 := by
    rcases e8 with z | z
    · rw [z.2.2]; exact (hE.1 w hw3).2.1
    · omega
  have heq : ed = (if dN D w < dCap D w then dRow D w else hp.2) := by
    rcases e8 with z | z
    · rw [if_pos z.1]; exact z.2.1
    · rw [if_neg (by omega)]; exact z.2
  have xr : x ≠ dRow D w := ne_row (hE.1 w hw3) hx
  refine ⟨ed, cap, f, hp1, e1, ⟨⟨hA.x e2, hR.w hw3 hE e2, ?_, hF.k e2 w1⟩, hsg.up hw3, ?_, Nat.lt_of_lt_of_le h4 e2.1, Nat.lt_of_lt_of_le h6 e2.1⟩, heq, e9, e2.1⟩
  · refine setL_ok hw3 hE e2 ⟨e4, hcap⟩ (Or.inr ⟨e3, by omega⟩) (fun i hi => ?_) (fun _ i hi => ?_) (fun z => by omega) (fun i j hi hj e => ?_) (fun _ i j hi hj => ?_) (fun _ => ?_)
    · by_cases z : i = dN D w
      · subst z; rw [e7, upN_s]
      · rw [e6 i (by omega), upN_n z]; exact (hE.1 w hw3).2.2.2 i (by omega)
    · by_cases z : i = dN D w
      · subst z; rw [upN_s, upN_s, upV_s]; exact ⟨hx.x e2 xr, hs.k e2 w1⟩
      · rw [upN_n z, upN_n z, upV_n z]
        have q := hE.2.1 w hw i (by omega)
        exact ⟨q.1.x e2 (ne_row (hE.1 w hw3) q.1), q.2.k e2 w1⟩
    · by_cases z1 : i = dN D w
      · by_cases z2 : j = dN D w
        · omega
        · subst z1
          rw [upN_s, upN_n z2] at e
          exact absurd e.symm (hf w hw j (by omega))
      · by_cases z2 : j = dN D w
        · subst z2
          rw [upN_s, upN_n z1] at e
          exact absurd e (hf w hw i (by omega))
        · rw [upN_n z1, upN_n z2] at e
          exact (hE.2.2.1 w w i j hw hw (by omega) (by omega) e).2
    · by_cases z : i = dN D w
      · subst z; rw [upN_s]; exact fun e => hf (1 - w) (by omega) j hj e.symm
      · rw [upN_n z]
        intro e
        have := (hE.2.2.1 w (1 - w) i j hw (by omega) (by omega) hj e).1
        omega
    · rcases e8 with z | z
      · have hne : dRow D w ≠ 1 := fun y => by
          have := e3.1
          rw [z.2.1, y] at this
          exact absurd this (by decide)
        rw [z.2.1]
        exact ⟨fun q hq hqw => hE.2.2.2.2.2.2.1 w q hw3 hq (fun y => hqw y.symm) hne, hE.2.2.2.2.2.2.2 w hw3 hne⟩
      · rw [z.2]
        exact ⟨fun q hq _ => by have := row_lt hq hE hK; omega, by omega, by omega⟩
  · show (if 0 = plc w ∧ 0 = 1 then .ref ed else σ.2.2 0 0) = _
    rw [if_neg (fun z => absurd z.2 (by decide))]
    exact hr
def cutN {T : Type} (f : Nat → T) (i : Nat) : Nat → T := fun j => if j < i then f j else f (j + 1)
theorem Wl_rm {w i : Nat} (hw : w < 2) (hl : Wl ρ fr A D σ hp) (hi : i < dN D w) {h : Hp} (ha : rmC A D σ hp w i h) :
    ∃ f hp1, h = ov rgM A (upLs σ (plc w) (σ.1 (plc w) 0 + 1) (dRow D w) (dN D w - 1)) hp1 ∧ Wl ρ fr A (setL D w (dRow D w) (dCap D w) (dN D w - 1) f (cutN (dEl D w) i) (cutN (dSa D w) i) (cutN (D.2.2.2.1 w) i)) (upLs σ (plc w) (σ.1 (plc w) 0 + 1) (dRow D w) (dN D w - 1)) hp1 ∧ hp1.2 = hp.2 ∧ xt (fun q => q = dRow D w) hp hp1 := by
  obtain ⟨⟨hA, hR, hE, hF⟩, hsg, hr, h4, h6⟩ := hl
  obtain ⟨f, e1, e2⟩ := ha
  have hw3 : w < 3 := by omega
  obtain ⟨w1, -, -⟩ := W_row hw3 hE hR
  obtain ⟨l1, l2, l3, l4⟩ := hE.1 w hw3
  have hrow : atC A hp (dRow D w) (rwC (dCap D w) (dF D w)) := by
    rcases l3 with z | z
    · omega
    · exact z.1
  have hx : xt (fun q => q = dRow D w) hp (hset hp (dRow D w) (rwC (dCap D w) f)) := ⟨Nat.le_refl _, fun q _ hq => hsN hq⟩
  have hne : dRow D w ≠ 1 := fun y => by
    have := hrow.1
    rw [y] at this
    exact absurd this (by decide)
  have ct : ∀ {T : Type} (g : Nat → T) (j : Nat), cutN g i j = g (if j < i then j else j + 1) := fun g j => by
    unfold cutN
    split <;> rfl
  have ci : ∀ j, j < dN D w - 1 → (if j < i then j else j + 1) < dN D w := fun j hj => by split <;> omega
  refine ⟨f, _, e1, ⟨⟨hA.x hx, hR.w hw3 hE hx, ?_, hF.k hx w1⟩, hsg.up hw3, ?_, h4, h6⟩, rfl, hx⟩
  · refine setL_ok hw3 hE hx ⟨by omega, l2⟩ (Or.inr ⟨⟨hrow.1, hrow.2.1, hrow.2.2.1, hsS⟩, by omega⟩) (fun j hj => ?_) (fun _ j hj => ?_) (fun z => by omega) (fun a b ha hb e => ?_) (fun _ a b ha hb => ?_) (fun _ => ⟨fun q hq hqw => hE.2.2.2.2.2.2.1 w q hw3 hq (fun y => hqw y.symm) hne, hE.2.2.2.2.2.2.2 w hw3 hne⟩)
    · rw [e2 j hj, ct, ← l4 _ (ci j hj)]
      split <;> rfl
    · rw [ct, ct, ct]
      have q := hE.2.1 w hw _ (ci j hj)
      exact ⟨q.1.x hx (ne_row (hE.1 w hw3) q.1), q.2.k hx w1⟩
    · rw [ct, ct] at e
      have := (hE.2.2.1 w w _ _ hw hw (ci a ha) (ci b hb) e).2
      by_cases z1 : a < i
      · rw [if_pos z1] at this
        by_cases z2 : b < i
        · rw [if_pos z2] at this; exact this
        · rw [if_neg z2] at this; omega
      · rw [if_neg z1] at this
        by_cases z2 : b < i
        · rw [if_pos z2] at this; omega
        · rw [if_neg z2] at this; omega
    · rw [ct]
      intro e
      have := (hE.2.2.1 w (1 - w) _ b hw (by omega) (ci a ha) hb e).1
      omega
  · show (if 0 = plc w ∧ 0 = 1 then .ref (dRow D w) else σ.2.2 0 0) = _
    rw [if_neg (fun z => absurd z.2 (by decide))]
    exact hr
theorem Wl_cl {w : Nat} (hw : w < 3) (hl : Wl ρ fr A D σ hp) {h : Hp} (ha : clC A D σ hp w h) :
    ∃ f hp1, h = ov rgM A (upLs σ (plc w) (σ.1 (plc w) 0 + 1) (dRow D w) 0) hp1 ∧ Wl ρ fr A (setL D w (dRow D w) (dCap D w) 0 f (dEl D w) (dSa D w) (D.2.2.2.1 w)) (upLs σ (plc w) (σ.1 (plc w) 0 + 1) (dRow D w) 0) hp1 ∧ hp1.2 = hp.2 := by
  obtain ⟨⟨hA, hR, hE, hF⟩, hsg, hr, h4, h6⟩ := hl
  obtain ⟨hp1, e1, hx, e3, e4⟩ := ha
  obtain ⟨w1, -, -⟩ := W_row hw hE hR
  obtain ⟨l1, l2, l3, l4⟩ := hE.1 w hw
  obtain ⟨f, hf⟩ : ∃ f, (dRow D w = 1 ∧ dCap D w = 0) ∨ (atC A hp1 (dRow D w) (rwC (dCap D w) f) ∧ 0 < dCap D w) := by
    rcases e4 with z | ⟨f, z⟩
    · exact ⟨dF D w, Or.inl z⟩
    · exact ⟨f, Or.inr z⟩
  refine ⟨f, hp1, e1, ⟨⟨hA.x hx, hR.w hw hE hx, ?_, hF.k hx w1⟩, hsg.up hw, ?_, Nat.lt_of_lt_of_le h4 hx.1, Nat.lt_of_lt_of_le h6 hx.1⟩, e3⟩
  · exact setL_ok hw hE hx ⟨Nat.zero_le _, l2⟩ hf (fun i hi => absurd hi (by omega)) (fun _ i hi => absurd hi (by omega)) (fun _ i hi => absurd hi (by omega)) (fun i j hi => absurd hi (by omega)) (fun _ i j hi => absurd hi (by omega)) (fun hne => ⟨fun q hq hqw => hE.2.2.2.2.2.2.1 w q hw hq (fun y => hqw y.symm) hne, hE.2.2.2.2.2.2.2 w hw hne⟩)
  · show (if 0 = plc w ∧ 0 = 1 then .ref (dRow D w) else σ.2.2 0 0) = _
    rw [if_neg (fun z => absurd z.2 (by decide))]
    exact hr
end Ka
