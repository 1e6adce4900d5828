/-! the parser of the component: the rate of SELECT (starred reads ahead and goes back) -/
section
variable {D : JD} {p s a base : Nat} {src : Str} {h h' h'' h0 : JH} {σ σ' σ'' σ0 : PS} {ρ ρ' ρ'' ρ0 : Nat → Nat} {n m n' m' : Int} {d c r w arr N : Nat}
def Pd2 (D : JD) (p s a base : Nat) (src : Str) (h0 h : JH) (σ0 σ : PS) (ρ0 ρ : Nat → Nat) : Prop := POk D p s a base src h0 h σ0 σ ρ0 ρ (80 * (lp σ - lp σ0)) (2400 * (lp σ - lp σ0))
abbrev PEr2 (p s : Nat) (src : Str) (h h' : JH) (σ : PS) (x e : Nat) : Prop := PErG 2 p s src h h' σ x e
theorem Pd.two (k : Pd D p s a base src h0 h σ0 σ ρ0 ρ) : Pd2 D p s a base src h0 h σ0 σ ρ0 ρ := by
  have := k.2.2.2.2.2
  exact POk.mono k (by omega) (by omega)
theorem PErG.two {x e : Nat} {t : Int} (h2 : PErG t p s src h h' σ x e) (ht : t = 0 ∨ t = 1 ∨ t = 2) : PEr2 p s src h h' σ x e := by
  obtain ⟨a1, a2, a3, a4⟩ := h2
  refine ⟨a1, a2, a3.mono ?_ ?_, a4⟩
  · rcases ht with rfl | rfl | rfl <;> omega
  · rcases ht with rfl | rfl | rfl <;> omega
theorem Pd2.tr (h1 : Pd2 D p s a base src h h' σ σ' ρ ρ') (h2 : POk D p s a base src h' h'' σ' σ'' ρ' ρ'' n m) (hn : n ≤ 80 * (lp σ'' - lp σ')) (hm : m ≤ 2400 * (lp σ'' - lp σ')) : Pd2 D p s a base src h h'' σ σ'' ρ ρ'' := (POk.tr h1 h2).mono (by omega) (by omega)
theorem Pd2.err {x e : Nat} {t : Int} (h1 : Pd2 D p s a base src h h' σ σ' ρ ρ') (h2 : PErG t p s src h' h'' σ' x e) (ht : t = 0 ∨ t = 1 ∨ t = 2) : PEr2 p s src h h'' σ x e := by
  obtain ⟨a1, a2, a3, a4⟩ := h2.two ht
  have := h1.2.2.2.2.2
  exact ⟨a1, h1.2.1.tr a2, (h1.2.2.2.1.tr a3).mono (by omega) (by omega), by omega⟩
end
