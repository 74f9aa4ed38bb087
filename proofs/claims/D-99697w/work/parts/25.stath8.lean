/-! the twin's statics with loops or switches: their functions, and that they compute them -/
set_option maxRecDepth 100000
def s8_tight (v : Int32) : Int32 := if v = 124 then 1 else if v = 38 then 2 else if v = 21 then 3 else if v = 60 ∨ v = 61 ∨ v = 62 then 4 else if v = 43 ∨ v = 45 then 5 else 6
theorem st8_tight (d : Nat) (v : Int32) : St8 mX8_tight (d + 1) [.int v] (some (.int (s8_tight v))) := by
  refine St8.of (by decide) rfl (fun G => Nat.le_of_ble_eq_true rfl) ?_
  intro G l hp
  refine R_iload_n dX8_tight_0 rfl ?_
  by_cases e1 : v = 124
  · subst e1
    refine R_lookup 76 dX8_tight_1 (by decide) rfl (by decide) ?_
    refine R_iconst (v := 1) dX8_tight_76 (by decide) ?_
    exact R_iret dX8_tight_77 rfl rfl ⟨rfl, rfl⟩
  by_cases e2 : v = 38
  · subst e2
    refine R_lookup 78 dX8_tight_1 (by decide) rfl (by decide) ?_
    refine R_iconst (v := 2) dX8_tight_78 (by decide) ?_
    exact R_iret dX8_tight_79 rfl rfl ⟨rfl, rfl⟩
  by_cases e3 : v = 21
  · subst e3
    refine R_lookup 80 dX8_tight_1 (by decide) rfl (by decide) ?_
    refine R_iconst (v := 3) dX8_tight_80 (by decide) ?_
    exact R_iret dX8_tight_81 rfl rfl ⟨rfl, rfl⟩
  by_cases e4 : v = 60 ∨ v = 61 ∨ v = 62
  · have e5 : s8_tight v = 4 := by unfold s8_tight; rw [if_neg e1, if_neg e2, if_neg e3, if_pos e4]
    rw [e5]
    rcases e4 with e | e | e
    · subst e
      refine R_lookup 82 dX8_tight_1 (by decide) rfl (by decide) ?_
      refine R_iconst (v := 4) dX8_tight_82 (by decide) ?_
      exact R_iret dX8_tight_83 rfl rfl ⟨rfl, rfl⟩
    · subst e
      refine R_lookup 82 dX8_tight_1 (by decide) rfl (by decide) ?_
      refine R_iconst (v := 4) dX8_tight_82 (by decide) ?_
      exact R_iret dX8_tight_83 rfl rfl ⟨rfl, rfl⟩
    · subst e
      refine R_lookup 82 dX8_tight_1 (by decide) rfl (by decide) ?_
      refine R_iconst (v := 4) dX8_tight_82 (by decide) ?_
      exact R_iret dX8_tight_83 rfl rfl ⟨rfl, rfl⟩
  by_cases e6 : v = 43 ∨ v = 45
  · have e5 : s8_tight v = 5 := by unfold s8_tight; rw [if_neg e1, if_neg e2, if_neg e3, if_neg e4, if_pos e6]
    rw [e5]
    rcases e6 with e | e
    · subst e
      refine R_lookup 84 dX8_tight_1 (by decide) rfl (by decide) ?_
      refine R_iconst (v := 5) dX8_tight_84 (by decide) ?_
      exact R_iret dX8_tight_85 rfl rfl ⟨rfl, rfl⟩
    · subst e
      refine R_lookup 84 dX8_tight_1 (by decide) rfl (by decide) ?_
      refine R_iconst (v := 5) dX8_tight_84 (by decide) ?_
      exact R_iret dX8_tight_85 rfl rfl ⟨rfl, rfl⟩
  have e7 : s8_tight v = 6 := by unfold s8_tight; rw [if_neg e1, if_neg e2, if_neg e3, if_neg e4, if_neg e6]
  rw [e7]
  have ne : ∀ x : Int32, v ≠ x → v.toInt ≠ x.toInt := fun x h q => h (Int32.toInt_inj.mp q)
  have n1 : v.toInt ≠ 124 := ne 124 e1
  have n2 : v.toInt ≠ 38 := ne 38 e2
  have n3 : v.toInt ≠ 21 := ne 21 e3
  have n4 : v.toInt ≠ 60 := ne 60 (fun h => e4 (Or.inl h))
  have n5 : v.toInt ≠ 61 := ne 61 (fun h => e4 (Or.inr (Or.inl h)))
  have n6 : v.toInt ≠ 62 := ne 62 (fun h => e4 (Or.inr (Or.inr h)))
  have n7 : v.toInt ≠ 43 := ne 43 (fun h => e6 (Or.inl h))
  have n8 : v.toInt ≠ 45 := ne 45 (fun h => e6 (Or.inr h))
  refine R_lookup (off := 85) 86 dX8_tight_1 (by decide) ?_ (by decide) ?_
  · simp [Op.lookupswitch.offset, n1, n2, n3, n4, n5, n6, n7, n8, Ne.symm n1, Ne.symm n2, Ne.symm n3, Ne.symm n4, Ne.symm n5, Ne.symm n6, Ne.symm n7, Ne.symm n8]
  · refine R_bipush (v := 6) dX8_tight_86 (by decide) ?_
    exact R_iret dX8_tight_88 rfl rfl ⟨rfl, rfl⟩
/-- what a sign does -/
def s8_done (v0 v1 v2 : Int32) : Int32 :=
  if v0 = 43 then v1 + v2 else if v0 = 45 then v1 - v2 else if v0 = 42 then v1 * v2
  else if v0 = 47 then (if v2 = 0 then 0 else v1 / v2) else if v0 = 37 then (if v2 = 0 then 0 else v1 - v1 / v2 * v2)
  else if v0 = 60 then s8_truth (if v2 ≤ v1 then 0 else 1) else if v0 = 62 then s8_truth (if v1 ≤ v2 then 0 else 1) else if v0 = 61 then s8_truth (if v1 = v2 then 1 else 0)
  else if v0 = 38 then s8_truth (if v1 = 0 then 0 else if v2 = 0 then 0 else 1) else s8_truth (if v1 = 0 then if v2 = 0 then 0 else 1 else 1)
theorem st8_done (d : Nat) (v0 v1 v2 : Int32) : St8 mX8_done (d + 2) [.int v0, .int v1, .int v2] (some (.int (s8_done v0 v1 v2))) := by
  refine St8.of (by decide) rfl (fun G => Nat.le_of_ble_eq_true rfl) (g8_done_0 ?_)
  refine ⟨fun h => ?_, ?_, ?_, ?_, ?_, ?_, ?_, ?_, ?_, ?_, ?_, ?_, ?_, ?_, ?_, ?_, ?_, ?_, ?_, ?_, ?_, ?_, ?_, ?_, ?_, ?_, ?_⟩
  · have ne : ∀ x : Int32, (36 < x.toInt ∧ x.toInt < 63) → v0 ≠ x := by
      rintro x hx rfl
      omega
    simp [s8_done, ne 43 (by decide), ne 45 (by decide), ne 42 (by decide), ne 47 (by decide), ne 37 (by decide), ne 60 (by decide), ne 62 (by decide), ne 61 (by decide), ne 38 (by decide)]
  all_goals intro h; subst h
  all_goals first
    | rfl
    | (refine ⟨fun h => ⟨h, ?_⟩, fun h => ?_⟩ <;> simp [s8_done, h])
def mb8 (v : Int32) : Nat → Int32
  | 0 => 0
  | k + 1 => mb8 v k + ((v >>> (nI k &&& 31)) &&& 1)
def s8_members (v : Int32) : Int32 := mb8 v 6
theorem mem8_loop (d : Nat) (v : Int32) : ∀ n k, k + n = 6 → RnS mX8_members (d + 1) 4 [.int v, .int (mb8 v k), .int (nI k)] [] (some (.int (s8_members v))) := by
  intro n
  induction n with
  | zero =>
    intro k hk
    have : k = 6 := by omega
    subst this
    exact g8_members_4 ⟨fun _ => rfl, fun h => absurd (by decide) h⟩
  | succ n ih =>
    intro k hk
    refine g8_members_4 ⟨fun h => absurd h (nI_ge (b := 6) (by omega) (by decide)), fun _ => ?_⟩
    rw [nI_1]
    exact ih (k + 1) (by omega)
theorem st8_members (d : Nat) (v : Int32) : St8 mX8_members (d + 1) [.int v] (some (.int (s8_members v))) := St8.of (by decide) rfl (fun G => Nat.le_of_ble_eq_true rfl) (g8_members_0 (mem8_loop d v 6 0 rfl))
def pw8 (b : Int32) : Nat → Int32
  | 0 => 1
  | k + 1 => pw8 b k * b
def s8_power (b n : Int32) : Int32 := pw8 b n.toNatClampNeg
theorem pow8_loop (d : Nat) (b v : Int32) (N : Nat) (hN : v = nI N) (hb : N < 2 ^ 31) : ∀ n k, k + n = N → RnS mX8_power (d + 1) 4 [.int b, .int v, .int (pw8 b k), .int (nI k)] [] (some (.int (pw8 b N))) := by
  intro n
  induction n with
  | zero =>
    intro k hk
    have : k = N := by omega
    subst this
    subst hN
    exact g8_power_4 ⟨fun _ => rfl, fun h => absurd (nI_le (Nat.le_refl _) hb) h⟩
  | succ n ih =>
    intro k hk
    subst hN
    refine g8_power_4 ⟨fun h => absurd h (nI_ge (by omega) hb), fun _ => ?_⟩
    rw [nI_1]
    exact ih (k + 1) (by omega)
theorem st8_power (d : Nat) (b v : Int32) : St8 mX8_power (d + 1) [.int b, .int v] (some (.int (s8_power b v))) := by
  refine St8.of (by decide) rfl (fun G => Nat.le_of_ble_eq_true rfl) (g8_power_0 ?_)
  by_cases h : v < 0
  · have h1 : v ≤ 0 := by
      rw [Int32.le_iff_toInt_le]
      rw [Int32.lt_iff_toInt_lt] at h
      omega
    have e : v.toNatClampNeg = 0 := by
      rw [Int32.lt_iff_toInt_lt] at h
      have h2 : v.toInt < 0 := h
      show v.toInt.toNat = 0
      omega
    have e2 : s8_power b v = 1 := by unfold s8_power; rw [e]; rfl
    rw [e2]
    exact g8_power_4 ⟨fun _ => rfl, fun q => absurd h1 q⟩
  · obtain ⟨N, hb, hN⟩ := nI_of h
    have e : v.toNatClampNeg = N := by rw [hN]; exact nI_clamp hb
    unfold s8_power
    rw [e]
    exact pow8_loop d b v N hN hb N 0 (by omega)
