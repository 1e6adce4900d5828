/-! the parser of the component: WHERE, DROP, DELETE -/
section
variable {D : JD} {p s a base : Nat} {src : Str} {h h' h'' h0 : JH} {σ σ' σ'' σ0 : PS} {ρ ρ' ρ'' ρ0 : Nat → Nat} {n m n' m' : Int} {d c r arr : Nat}
/-- what a step gives that may make a tree -/
def WP (D : JD) (p s a base : Nat) (src : Str) (h : JH) (σ : PS) (ρ : Nat → Nat) (x : Except Nat (Option Nat × PS)) (v : Nat) (h' : JH) : Prop :=
  ∃ y σ' ρ', x = .ok (y, σ') ∧ OtR ρ' v y ∧ Pd D p s a base src h h' σ σ' ρ ρ' ∧ lp σ ≤ lp σ'
theorem w_where (k : PsR D p s a base src h σ ρ) (ho : psO σ = 0) (hd : 351 ≤ d) :
    cX17_where D d p h (pR D h 55 (WP D p s a base src h σ ρ (pWhere true src "where" σ)) (XE p s src h σ (pWhere true src "where" σ))) := by
  obtain ⟨e, rfl, he⟩ := dsucc hd
  refine JW.inv fun hI => t_X17_where ⟨k.1.2.1, k.sg, ?_⟩
  rw [k.1.2.2.1]
  refine useI (w_takesWord k "where" (by decide +kernel) (by omega)) ?_ ?_
  · rintro v1 h1 hI1 _ ⟨b, σ1, e1, rfl, n1, q1, t1, f1⟩
    cases b with
    | true =>
      obtain ⟨i1, en, l1⟩ := t1 rfl
      have kd1 : Pd D p s a base src h h1 σ σ1 ρ ρ := n1.pok.mono (by omega) (by omega)
      have o1 : psO σ1 = 0 := by rw [← ho]; unfold psO; rw [q1]
      refine ⟨fun z => absurd z (by decide), fun _ => useR (w_expr 31 σ1 ρ h1 e n1.1 (by omega) (by omega)) ?_ ?_⟩
      · rintro v2 h2 hI2 _ ⟨i, σ2, ρ2, e2, hv2, n2, l2⟩
        exact endR fun _ _ _ => ⟨some i, σ2, ρ2, by unfold pWhere; rw [e1, ok_bind]; show (pExpr true src 31 σ1 >>= _) = _; rw [e2]; rfl, hv2, kd1.tr n2 (Int.le_refl _) (Int.le_refl _), by omega⟩
      · rintro y2 h2 hI2 _ ⟨er, e2, n2⟩
        exact endX fun _ _ => ⟨er, by unfold pWhere; rw [e1, ok_bind]; show (pExpr true src 31 σ1 >>= _) = _; rw [e2]; rfl, kd1.err n2⟩
    | false =>
      obtain ⟨i1, rfl, rfl⟩ := f1 rfl
      refine ⟨fun _ => endR fun _ _ _ => ⟨none, σ1, ρ, by unfold pWhere; rw [e1]; rfl, rfl, n1.pok.mono (by omega) (by omega), Int.le_refl _⟩, fun z => absurd rfl z⟩
  · rintro y1 h1 hI1 _ ⟨er, e1, n1⟩
    exact endX fun _ _ => ⟨er, by unfold pWhere; rw [e1]; rfl, n1.up⟩
end
