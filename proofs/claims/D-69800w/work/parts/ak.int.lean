/-! the parser of the component: an integer behind LIMIT and OFFSET -/
section
variable {D : JD} {p s a base : Nat} {src : Str} {h h' h'' h0 : JH} {σ σ' σ'' σ0 : PS} {ρ ρ' ρ'' ρ0 : Nat → Nat} {n m n' m' : Int} {d c r w arr N : Nat}
theorem kcon_int (hI : JInv D h) {k : Nat} (hk : k < 7) : kcon D k = jcs D 352 ↔ k = 3 := by
  have inj := fun {i j : Nat} (hi : i < 373 ∧ jenm i = true) (hj : j < 373 ∧ jenm j = true) (e : jcs D i = jcs D j) => kc_ne hI hi hj e
  rcases (show k = 0 ∨ k = 1 ∨ k = 2 ∨ k = 3 ∨ k = 4 ∨ k = 5 ∨ k = 6 by omega) with rfl | rfl | rfl | rfl | rfl | rfl | rfl
  · exact ⟨fun e => absurd (inj ⟨by decide, by decide⟩ ⟨by decide, by decide⟩ e) (by decide), fun e => by cases e⟩
  · exact ⟨fun e => absurd (inj ⟨by decide, by decide⟩ ⟨by decide, by decide⟩ e) (by decide), fun e => by cases e⟩
  · exact ⟨fun e => absurd (inj ⟨by decide, by decide⟩ ⟨by decide, by decide⟩ e) (by decide), fun e => by cases e⟩
  · exact ⟨fun _ => rfl, fun _ => rfl⟩
  · exact ⟨fun e => absurd (inj ⟨by decide, by decide⟩ ⟨by decide, by decide⟩ e) (by decide), fun e => by cases e⟩
  · exact ⟨fun e => absurd (inj ⟨by decide, by decide⟩ ⟨by decide, by decide⟩ e) (by decide), fun e => by cases e⟩
  · exact ⟨fun e => absurd (inj ⟨by decide, by decide⟩ ⟨by decide, by decide⟩ e) (by decide), fun e => by cases e⟩
def itS (src : Str) (σ : PS) : Except Nat (Int64 × PS) := if tkK (psT σ) == 3 then pNext true src σ >>= fun q => .ok (tkN (psT σ), q.2) else pBroken σ
theorem w_integer (k : PsR D p s a base src h σ ρ) (hd : 11 ≤ d) :
    cX17_integer D d p h (pL D h (fun v h' => ∃ σ', itS src σ = .ok (v, σ') ∧ PSg D p s a base src h h' σ σ' ρ ∧ lp σ + 1 ≤ lp σ' ∧ σ'.2 = σ.2) (fun x h' => ∃ e, itS src σ = .error e ∧ PErG 0 p s src h h' σ x e)) := by
  obtain ⟨e, rfl, he⟩ := dsucc hd
  refine JW.inv fun hI => t_X17_integer ⟨k.1.2.1, k.sg, ?_⟩
  rw [k.1.2.2.1, k.2.1.2.2.1]
  refine ⟨fun z => ?_, fun z => ?_⟩
  · rw [kcon_int hI k.k7] at z
    rw [k.2.1.2.2.2.2.1 (Or.inl z)]
    refine useV (w_next k (by omega) (by omega)) ?_ ?_
    · rintro h1 hI1 _ ⟨σ1, e1, n1, l1, q1⟩
      exact endL fun _ _ => ⟨σ1, by unfold itS; rw [if_pos (by rw [z]; rfl), e1]; rfl, n1, l1, q1⟩
    · rintro y1 h1 hI1 _ ⟨er, e1, n1⟩
      exact fun _ _ => ⟨er, by unfold itS; rw [if_pos (by rw [z]; rfl), e1]; rfl, n1⟩
  · rw [kcon_int hI k.k7] at z
    refine useR0 (w_broken k (by omega)) ?_
    rintro y1 h1 hI1 _ n1
    exact ⟨n1.1.1, fun _ _ => ⟨tkF (psT σ) + 1, by unfold itS; rw [if_neg (by simpa using z)]; rfl, n1⟩⟩
end
