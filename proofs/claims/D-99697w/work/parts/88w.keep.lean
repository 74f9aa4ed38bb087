/-! the component: acts are kept -/
set_option maxRecDepth 100000
section Kp
variable {G : Wd} {l : Launch} {hp : Hp} {ρ : Rho} {fr : Nat → Option va_E} {A : Nat → Nat} {D : Dn} {σ : Sg}
theorem ev_keptInit (d : Nat) {a s : Nat} (ha : a < hp.2) (hK : K0 ≤ a) (he : hp.1 a = .inr (7, [.null])) : Ev G l mX7_init (d + 1) 0 0 [.ref a, .ref s] hp (fun v h => v = none ∧ h = hset hp a (.inr (7, [.ref s]))) := by
  refine Ev.of (by decide) (Nat.le_of_ble_eq_true rfl) ?_
  refine R_aload_n dX7_init_0 rfl ?_
  refine R_objInit dX7_init_1 q412 q155 q156 (Nat.le_of_ble_eq_true rfl) ?_
  refine R_aload_n dX7_init_4 rfl ?_
  refine R_aload_n dX7_init_5 rfl ?_
  refine R_putM dX7_init_6 fm_X7_7_7 ft_7_0 rfl rfl ha hK he (Nat.le_of_ble_eq_true rfl) ?_
  exact R_vret dX7_init_9 rfl ⟨rfl, rfl⟩
/-- now, then as states in the heap -/
theorem now_at (hA : okA rgM A hp) : isSt (ov rgM A σ hp) (A 1) (fun p => A (2 + p)) (fun p => σ.1 (2 + p)) (fun q => σ.1 1 (6 + q)) := by
  refine ⟨(hA.1 1 (by decide)).2, by rw [ov_at hA (by decide)]; rfl, fun p hp' => ?_⟩
  refine ⟨(hA.1 (2 + p) (by show 2 + p < 31; omega)).2, ?_⟩
  show (ov rgM A σ hp).1 (A (2 + p)) = _
  rw [ov_at hA (by show 2 + p < 31; omega)]
  match p, hp' with
  | 0, _ => rfl
  | 1, _ => rfl
  | 2, _ => rfl
  | 3, _ => rfl
  | 4, _ => rfl
  | 5, _ => rfl
/-- what was made anew lies outside -/
theorem ov_ext {h : Hp} (hA : okA rgM A hp) (hz : hp.2 ≤ h.2) (ho : ∀ i, i < hp.2 → h.1 i = (ov rgM A σ hp).1 i) : ∃ hp1, h = ov rgM A σ hp1 ∧ xt (fun _ => False) hp hp1 ∧ hp1.2 = h.2 ∧ ∀ i, hp.2 ≤ i → hp1.1 i = h.1 i := by
  refine ⟨(fun i => if i < hp.2 then hp.1 i else h.1 i, h.2), ?_, ⟨hz, fun i hi _ => if_pos hi⟩, rfl, fun i hi => if_neg (by omega)⟩
  apply Prod.ext
  · funext i
    by_cases hi : i < hp.2
    · rw [ho i hi]
      show (match plR A i rgM.2.2 with | some o => ceR rgM A σ o | none => hp.1 i) = (match plR A i rgM.2.2 with | some o => ceR rgM A σ o | none => if i < hp.2 then hp.1 i else h.1 i)
      rw [if_pos hi]
    · have : outA rgM A i := fun o ho' z => by have := (hA.1 o ho').2; omega
      rw [ov_out this]
      show h.1 i = if i < hp.2 then hp.1 i else h.1 i
      rw [if_neg hi]
  · rfl
theorem out_new {i : Nat} (hA : okA rgM A hp) (h : hp.2 ≤ i) : outA rgM A i := fun o ho z => by have := (hA.1 o ho).2; omega
/-- a copy of now, made outside -/
theorem copyC (d : Nat) (hA : okA rgM A hp) : Ev G l mX0_copy (d + 2) 7 45 [.ref (A 1)] (ov rgM A σ hp) (fun v h => v = some (.ref hp.2) ∧ ∃ hp1, h = ov rgM A σ hp1 ∧ xt (fun _ => False) hp hp1 ∧ hp1.2 = hp.2 + 7 ∧ StAt A hp1 hp.2 (stV σ 1)) := by
  have hK : K0 ≤ hp.2 := by have := hA.1 0 (by decide); omega
  refine Ev.mono (ev_copy d (now_at (σ := σ) hA) hK) (fun v h hq => ?_)
  obtain ⟨rfl, z, o, r, s1, s2⟩ := hq
  have z' : h.2 = hp.2 + 7 := z
  obtain ⟨hp1, e1, e2, e3, e4⟩ := ov_ext (σ := σ) (h := h) hA (by omega) o
  refine ⟨rfl, hp1, e1, e2, by omega, (fun p => hp.2 + 1 + p), (fun q => σ.1 1 (6 + q)), ⟨hK, by omega, out_new hA (Nat.le_refl _), by rw [e4 _ (Nat.le_refl _)]; exact s1.2.1⟩, ⟨rdn6, rdn7, rdn8⟩, fun p hp' => ⟨r p, ⟨by show K0 ≤ hp.2 + 1 + p; omega, by show hp.2 + 1 + p < hp1.2; omega, out_new hA (by show hp.2 ≤ hp.2 + 1 + p; omega), ?_⟩, fun k hk => ?_⟩⟩
  · rw [e4 _ (by show hp.2 ≤ hp.2 + 1 + p; omega)]
    exact (s1.2.2 p hp').2
  · rw [s2 p hp' k hk]
    have := stV_rd (σ := σ) (b := 1) hp' hk
    rw [← this]
end Kp
