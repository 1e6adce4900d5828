/-! what the tables say of kinds -/
theorem jt_ble {n k : Nat} (h : n ≤ k) : Nat.ble n k = true := Nat.ble_eq.mpr h
theorem sups_big {k : Nat} (h : 226 ≤ k) : sups k = [] := by unfold sups; rw [jt_ble h]; rfl
theorem sbt_iff {k t : Nat} : sbt k t = true ↔ t ∈ sups k := by
  unfold sbt
  rw [List.any_eq_true]
  constructor
  · rintro ⟨u, hu, e⟩
    rwa [Nat.eq_of_beq_eq_true e] at hu
  · intro h
    exact ⟨t, h, Nat.beq_refl t⟩
theorem sbt_lt {k t : Nat} (h : sbt k t = true) : k < 226 := by
  rw [sbt_iff] at h
  rcases Nat.lt_or_ge k 226 with q | q
  · exact q
  · rw [sups_big q] at h; cases h
theorem sbt_0 (t : Nat) : sbt 0 t = false := by
  cases h : sbt 0 t with
  | false => rfl
  | true => rw [sbt_iff] at h; exact absurd h (by simp [show sups 0 = [] from rfl])
theorem jt_trans0 : ∀ k, k < 226 → ∀ t ∈ sups k, ∀ u ∈ sups t, u ∈ sups k := by decide +kernel
theorem sbt_trans {k t u : Nat} (h1 : sbt k t = true) (h2 : sbt t u = true) : sbt k u = true :=
  sbt_iff.mpr (jt_trans0 k (sbt_lt h1) t (sbt_iff.mp h1) u (sbt_iff.mp h2))
theorem jt_wtg0 : ∀ k, k < 226 → jkk k = true → ∀ t ∈ sups k, wtg t = true → wrt k = true := by decide +kernel
theorem jt_arr0 : ∀ k, k < 226 → ∀ t ∈ sups k, jar_ t = true → aty k = aty t ∧ atk k = atk t ∧ atg k = atg t := by decide +kernel
theorem jt_fldc : ((List.range 330).all fun F => (List.range 226).all fun k => !(job_ k && (sups k).contains (fcl F)) || (fld k).contains F) = true := by decide +kernel
theorem jt_fld0 {F k : Nat} (hF : F < 330) (hk : k < 226) (hj : job_ k = true) (hm : fcl F ∈ sups k) : F ∈ fld k := by
  have h := List.all_eq_true.mp (List.all_eq_true.mp jt_fldc F (List.mem_range.mpr hF)) k (List.mem_range.mpr hk)
  simp only [hj, Bool.true_and, Bool.or_eq_true, Bool.not_eq_true', List.contains_eq_mem, decide_eq_true_eq, decide_eq_false_iff_not] at h
  rcases h with h | h
  · exact absurd hm h
  · exact h
theorem jt_cls0 : ∀ k, k < 226 → job_ k = true → aty k = none ∧ jar_ k = false := by decide +kernel
theorem jt_acl0 : ∀ k, k < 226 → jar_ k = true → aty k ≠ none ∧ job_ k = false := by decide +kernel
theorem jt_ftg0 : ∀ F, F < 330 → fcl F ≠ 0 ∧ parseFieldDescriptor (fds F) = some (fty F) := by decide +kernel
theorem jt_inj0 : ∀ k, k < 226 → ∀ F ∈ fld k, ∀ G ∈ fld k, F ≠ G → fnm F ≠ fnm G := by decide +kernel
theorem jt_arrs0 : ∀ k, k < 226 → jar_ k = true → ∀ t ∈ sups k, jar_ t = true := by decide +kernel
theorem jt_fclc : ∀ F, F < 330 → jar_ (fcl F) = false := by decide +kernel
theorem jt_clss0 : ∀ k, k < 226 → job_ k = true → ∀ t ∈ sups k, jar_ t = false := by decide +kernel
theorem jt_fref0 : ∀ F, F < 330 → ftk F = 2 → (fty F).isReference = true := by decide +kernel
theorem jt_aref0 : ∀ k, k < 226 → atk k = 2 → ∀ ty, aty k = some ty → ty.isReference = true := by
  intro k hk h ty hty
  have key : ((List.range 226).all fun k => !(Nat.beq (atk k) 2) || match aty k with | some ty => ty.isReference | none => true) = true := by decide +kernel
  have := List.all_eq_true.mp key k (List.mem_range.mpr hk)
  rw [h, hty] at this
  simpa using this
theorem jt_kk0 : ∀ k, k < 226 → jkk k = true → job_ k = true ∨ jar_ k = true ∨ sups k = [k] := by decide +kernel
theorem jt_kf0 : ∀ F, F < 330 → ∀ k, k < 226 → fcl F = k → jkk k = true → job_ k = true := by decide +kernel
theorem jt_nar0 : ∀ k, k < 226 → jkk k = true → jar_ k = false → ∀ t ∈ sups k, jar_ t = false := by decide +kernel
