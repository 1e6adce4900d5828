/-! the parser of the component: INSERT, the loop of rows -/
section
variable {D : JD} {p s a base : Nat} {src : Str} {h h' h'' h0 : JH} {σ σ' σ'' σ0 : PS} {ρ ρ' ρ'' ρ0 : Nat → Nat} {n m n' m' : Int} {d c r w arr N : Nat} {t nm : Str} {ns : List Str}
theorem irL_eq {rs : List (List Nat)} (f : Nat) (hl : rs.length ≠ 20) : irL src nm ns (f + 1) rs σ = (pNeed true src "(" σ >>= fun q => ivL src nm ns f rs 11 [] q.2) := by
  unfold irL ivL
  conv => lhs; unfold pRows
  rw [if_neg (by simpa using hl)]
  cases pNeed true src "(" σ with
  | error e => rfl
  | ok q =>
    show (pList (pExpr true src 31) true src 10 11 [] q.2 >>= _) >>= _ = (pList (pExpr true src 31) true src 10 11 [] q.2 >>= _)
    cases pList (pExpr true src 31) true src 10 11 [] q.2 with
    | error e => rfl
    | ok x =>
      unfold icL irL
      show (pNeed true src ")" x.2 >>= _) >>= _ = (pNeed true src ")" x.2 >>= _)
      cases pNeed true src ")" x.2 with
      | error e => rfl
      | ok c =>
        show (pTake true src "," c.2 >>= _) >>= _ = (pTake true src "," c.2 >>= _)
        cases pTake true src "," c.2 with
        | error e => rfl
        | ok b =>
          obtain ⟨b, τ⟩ := b
          cases b <;> rfl
theorem w_insRL (hI0 : JInv D h0) (hs0 : s ≤ jsz h0) : ∀ f rs σ ρ h d (Q : JO → JH → Prop), Pd D p s a base src h0 h σ0 σ ρ0 ρ → JInv D h → InS (jsz h0) h ρ r nm ns rs → Bnd σ rs → psO σ = 0 → 21 ≤ f + rs.length → 351 ≤ d →
    (∀ h', JInv D h' → (∃ y σ' ρ', irL src nm ns f rs σ = .ok (y, σ') ∧ InsR h' ρ' r y ∧ Pd D p s a base src h0 h' σ0 σ' ρ0 ρ' ∧ lp σ ≤ lp σ') → Q (.inl (some (vR 57 r))) h') → (∀ y h', JInv D h' → XE p s src h0 σ0 (irL src nm ns f rs σ) y h' → Q (.inr y) h') → L_X17_insert_96 D d Q f p r h
  | 0, rs, σ, ρ, h, d, Q, k, _, u, _, _, hf, _, _, _ => by
    have := u.2.2.2.2.2.2.1.2
    exfalso; omega
  | f + 1, rs, σ, ρ, h, d, Q, k, hI, u, hb, ho, hf, hd, hQ, hE => by
    have hl := u.2.2.2.2.2.2.1.2
    have uc := u.2.2.2.2.2.2.1.1
    refine ⟨u.1.2.1, JW.up (n := 1) (fun _ => t_X23_high ⟨u.1.2.1, ?_⟩) (by omega)⟩
    rw [uc]
    by_cases e8 : rs.length = 20
    · refine ⟨fun z => absurd (by rw [e8]; rfl) z, fun _ => ⟨Or.inr rfl, endI fun _ _ => ⟨fun z => absurd z (by decide), fun _ => ⟨k.1.1.2.1, useR0 (w_broken k.1 (by omega)) ?_⟩⟩⟩⟩
      rintro y h1 hI1 _ n1
      refine ⟨n1.1.1, hE y h1 hI1 ⟨tkF (psT σ) + 1, ?_, k.err n1⟩⟩
      unfold irL pRows
      rw [if_pos (by simpa using e8)]; rfl
    · refine ⟨fun _ => ⟨Or.inl rfl, endI fun _ _ => ⟨fun _ => ⟨k.1.1.2.1, k.1.sg, ?_⟩, fun z => absurd rfl z⟩⟩, fun z => absurd ((nI_eq (b := 20) (by omega) (by omega)).mp z) e8⟩
      rw [k.1.1.2.2.1]
      have eq0 := irL_eq (src := src) (nm := nm) (ns := ns) (σ := σ) f e8
      refine useV (w_need k.1 "(" (by decide +kernel) (by omega)) ?_ ?_
      · rintro h1 hI1 _ ⟨σ1, e1, n1, l1, q1⟩
        have kd1 := POk.tr k n1
        have u1 := POk.inS n1 k.1 hI u hb
        have A1 : psA σ1 = psA σ := by unfold psA; rw [q1]
        have o1 : psO σ1 = 0 := by rw [← ho]; unfold psO; rw [q1]
        have b1 : Bnd σ1 (rs ++ [[]]) := fun row hr x hx => by
          rcases List.mem_append.mp hr with z | z
          · rw [A1]; exact hb row z x hx
          · rw [List.mem_singleton.mp z] at hx; cases hx
        have eq1 : irL src nm ns (f + 1) rs σ = ivL src nm ns f rs 11 [] σ1 := by rw [eq0, e1, ok_bind]
        rw [eq1] at hQ hE
        refine useV0 (w_insRow kd1 hI0 hs0 u1 (by omega) (by omega)) ?_
        rintro h2 hI2 _ ⟨n2, u2⟩
        have kd2 : Pd D p s a base src h0 h2 σ0 σ1 ρ0 ρ := n2.mono (by omega) (by omega)
        refine ⟨11, w_insVL (f := f) hI0 hs0 11 [] σ1 ρ h2 d Q kd2 hI2 u2 b1 o1 (by decide) hd ?_ ?_ hE⟩
        · intro rs' σ6 ρ6 h6 z1 z2 z3 z4 z5 z6 z7 z8
          rw [z8] at hQ hE
          refine w_insRL hI0 hs0 f rs' σ6 ρ6 h6 d Q z2 z1 z3 z5 z6 (by omega) hd ?_ hE
          rintro h7 hI7 ⟨y, σ7, ρ7, x1, x2, x3, x4⟩
          exact hQ h7 hI7 ⟨y, σ7, ρ7, x1, x2, x3, by omega⟩
        · rintro h6 hI6 ⟨y6, σ6, ρ6, x1, x2, x3, x4⟩
          exact hQ h6 hI6 ⟨y6, σ6, ρ6, x1, x2, x3, by omega⟩
      · rintro y1 h1 hI1 _ ⟨er, e1, n1⟩
        exact hE y1 h1 hI1 ⟨er, by rw [eq0, e1]; rfl, k.err n1⟩
end
