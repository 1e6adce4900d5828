/-! values have the types that were found -/
/-- a value that can stand in a cell -/
def VW (v : Val) : Prop := v = vNull ∨ (∃ b, v = vBool b) ∨ (∃ n : Int64, v = vNum n ∧ n ≤ sMost ∧ -sMost ≤ n) ∨ ∃ s : Str, v = vTxt s ∧ s.length ≤ 40 ∧ ∀ c ∈ s, jby c
/-- of the type t, or missing -/
def VT (t : Nat) (v : Val) : Prop := VW v ∧ (v.1 = 0 ∨ v.1 = t)
theorem VW.null {v : Val} (k : VW v) (e : v.1 = 0) : v = vNull := by
  rcases k with rfl | ⟨b, rfl⟩ | ⟨n, rfl, _⟩ | ⟨s, rfl, _⟩
  · rfl
  · cases e
  · cases e
  · cases e
theorem VW.ty {v : Val} (k : VW v) : TyOk v.1 := by
  rcases k with rfl | ⟨b, rfl⟩ | ⟨n, rfl, _⟩ | ⟨s, rfl, _⟩
  · exact Or.inl rfl
  · exact Or.inr (Or.inl rfl)
  · exact Or.inr (Or.inr (Or.inl rfl))
  · exact Or.inr (Or.inr (Or.inr rfl))
theorem VW.bool {v : Val} (k : VW v) (e : v.1 = 16) : ∃ b, v = vBool b := by
  rcases k with rfl | ⟨b, rfl⟩ | ⟨n, rfl, _⟩ | ⟨s, rfl, _⟩
  · cases e
  · exact ⟨b, rfl⟩
  · cases e
  · cases e
theorem VW.num {v : Val} (k : VW v) (e : v.1 = 20) : ∃ n : Int64, v = vNum n ∧ n ≤ sMost ∧ -sMost ≤ n := by
  rcases k with rfl | ⟨b, rfl⟩ | ⟨n, rfl, z⟩ | ⟨s, rfl, _⟩
  · cases e
  · cases e
  · exact ⟨n, rfl, z⟩
  · cases e
theorem VW.txt {v : Val} (k : VW v) (e : v.1 = 25) : ∃ s : Str, v = vTxt s ∧ s.length ≤ 40 ∧ ∀ c ∈ s, jby c := by
  rcases k with rfl | ⟨b, rfl⟩ | ⟨n, rfl, _⟩ | ⟨s, rfl, z⟩
  · cases e
  · cases e
  · cases e
  · exact ⟨s, rfl, z⟩
theorem VT.null (t : Nat) : VT t vNull := ⟨Or.inl rfl, Or.inl rfl⟩
theorem VT.bool (b : Bool) : VT 16 (vBool b) := ⟨Or.inr (Or.inl ⟨b, rfl⟩), Or.inr rfl⟩
theorem VT.xnum {n : Int64} {v : Val} (e : xNum n = .ok v) : VT 20 v ∧ v = vNum n := by
  unfold xNum at e
  split at e
  · rename_i h
    cases e
    simp only [Bool.and_eq_true, decide_eq_true_eq] at h
    exact ⟨⟨Or.inr (Or.inr (Or.inl ⟨n, rfl, h⟩)), Or.inr rfl⟩, rfl⟩
  · cases e
theorem VT.xtxt {s : Str} {v : Val} (e : xTxt s = .ok v) (hs : ∀ c ∈ s, jby c) : VT 25 v := by
  unfold xTxt at e
  split at e
  · cases e
    exact ⟨Or.inr (Or.inr (Or.inr ⟨s, rfl, by assumption, hs⟩)), Or.inr rfl⟩
  · cases e
theorem VT.told {k : Nat} {a b : Val} : VT 16 (vTold k a b) := by
  unfold vTold
  split
  · exact VT.null 16
  · exact VT.bool _
theorem VT.sub {t u : Nat} {v : Val} (k : VT u v) (h : u = 0 ∨ u = t) : VT t v := by
  refine ⟨k.1, ?_⟩
  rcases k.2 with z | z
  · exact Or.inl z
  · rcases h with y | y
    · exact Or.inl (z.trans y)
    · exact Or.inr (z.trans y)
/-- what fits a due type has it or is missing -/
theorem fits_sub {a b : Nat} (h : tFits a b = .ok ()) (hb : b ≠ 0) : a = 0 ∨ a = b := by
  unfold tFits xMust at h
  split at h
  · rename_i z
    simp only [Bool.or_eq_true, beq_iff_eq] at z
    rcases z with z | z | z
    · exact Or.inl z
    · exact absurd z hb
    · exact Or.inr z
  · cases h
theorem fits_or {a b : Nat} (h : tFits a b = .ok ()) : a = 0 ∨ b = 0 ∨ a = b := by
  unfold tFits xMust at h
  split at h
  · rename_i z
    simp only [Bool.or_eq_true, beq_iff_eq] at z
    exact z
  · cases h
theorem tSame_sub {a b c : Nat} (h : tSame a b = .ok c) : (a = 0 ∨ a = c) ∧ (b = 0 ∨ b = c) := by
  rw [tSame_eq] at h
  cases hf : tFits a b with
  | error e => rw [hf] at h; cases h
  | ok u =>
    rw [hf] at h
    have h : Except.ok (if a = 0 then b else a) = (Except.ok c : Ex Nat) := h
    cases h
    rcases fits_or hf with z | z | z
    · rw [if_pos z]; exact ⟨Or.inl z, Or.inr rfl⟩
    · refine ⟨?_, Or.inl z⟩
      by_cases c : a = 0
      · exact Or.inl c
      · rw [if_neg c]; exact Or.inr rfl
    · rw [z]; simp
theorem one_sub : ∀ (l : List Nat) (a t : Nat), l.foldlM tSame a = .ok t → (a = 0 ∨ a = t) ∧ ∀ u ∈ l, u = 0 ∨ u = t
  | [], a, t, h => by
    cases h
    exact ⟨Or.inr rfl, fun u hu => by cases hu⟩
  | b :: l, a, t, h => by
    rw [List.foldlM_cons] at h
    cases hs : tSame a b with
    | error e => rw [hs] at h; cases h
    | ok c =>
      rw [hs] at h
      obtain ⟨c1, c2⟩ := one_sub l c t h
      obtain ⟨s1, s2⟩ := tSame_sub hs
      have tr : ∀ u, u = 0 ∨ u = c → u = 0 ∨ u = t := fun u hu => by
        rcases hu with z | z
        · exact Or.inl z
        · rcases c1 with y | y
          · exact Or.inl (z.trans y)
          · exact Or.inr (z.trans y)
      refine ⟨tr a s1, fun u hu => ?_⟩
      rcases List.mem_cons.mp hu with z | z
      · rw [z]; exact tr b s2
      · exact c2 u z
theorem all_sub : ∀ (l : List Nat) (w : Nat), w ≠ 0 → tAll l w = .ok () → ∀ u ∈ l, u = 0 ∨ u = w
  | [], w, _, _, u, hu => by cases hu
  | b :: l, w, hw, h, u, hu => by
    rw [tAll_cons] at h
    cases hs : tFits b w with
    | error e => rw [hs] at h; cases h
    | ok c =>
      rw [hs] at h
      rcases List.mem_cons.mp hu with z | z
      · rw [z]; exact fits_sub hs hw
      · exact all_sub l w hw h u z
