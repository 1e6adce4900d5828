/-! the parser of the component: INSERT, the loop of values -/
section
variable {D : JD} {p s a base : Nat} {src : Str} {h h' h'' h0 : JH} {σ σ' σ'' σ0 : PS} {ρ ρ' ρ'' ρ0 : Nat → Nat} {n m n' m' : Int} {d c r w arr N : Nat} {t nm : Str} {ns : List Str} {l : List (List Nat)} {row : List Nat}
def inE (nm : Str) (ns : List Str) (rs : List (List Nat)) (σ : PS) : Stm := (2, nm, [], ns, rs, none, selNone, psP σ, psA σ)
/-- rows from the f-th on -/
def irL (src : Str) (nm : Str) (ns : List Str) (f : Nat) (rs : List (List Nat)) (σ : PS) : Except Nat (Stm × PS) := pRows true src f rs σ >>= fun q => .ok (inE nm ns q.1 q.2, q.2)
/-- behind a row -/
def icL (src : Str) (nm : Str) (ns : List Str) (f : Nat) (rs : List (List Nat)) (σ : PS) : Except Nat (Stm × PS) := pNeed true src ")" σ >>= fun c => pTake true src "," c.2 >>= fun b => if b.1 = true then irL src nm ns f rs b.2 else .ok (inE nm ns rs b.2, b.2)
/-- values of a row from the g-th on -/
def ivL (src : Str) (nm : Str) (ns : List Str) (f : Nat) (l : List (List Nat)) (g : Nat) (row : List Nat) (σ : PS) : Except Nat (Stm × PS) := pList (pExpr true src 31) true src 10 g row σ >>= fun q => icL src nm ns f (l ++ [q.1]) q.2
theorem ivL_eq (f g : Nat) (hl : row.length ≠ 10) : ivL src nm ns f l (g + 1) row σ = (pExpr true src 31 σ >>= fun x => pTake true src "," x.2 >>= fun b => if b.1 = true then ivL src nm ns f l g (row ++ [x.1]) b.2 else icL src nm ns f (l ++ [row ++ [x.1]]) b.2) := by
  unfold ivL
  conv => lhs; unfold pList
  rw [if_neg (by simpa using hl)]
  cases pExpr true src 31 σ with
  | error e => rfl
  | ok x =>
    show (pTake true src "," x.2 >>= _) >>= _ = (pTake true src "," x.2 >>= _)
    cases pTake true src "," x.2 with
    | error e => rfl
    | ok b =>
      obtain ⟨b, τ⟩ := b
      cases b <;> rfl
def InsR (h : JH) (ρ : Nat → Nat) (v : Nat) (y : Stm) : Prop := ∃ N, InS N h ρ v (smT y) (smN y) (smR y)
def Bnd (σ : PS) (rs : List (List Nat)) : Prop := ∀ row ∈ rs, ∀ x ∈ row, x < (psA σ).length
theorem Bnd.mono {rs : List (List Nat)} (b : Bnd σ rs) (hl : (psA σ).length ≤ (psA σ').length) : Bnd σ' rs := fun row hr x hx => Nat.lt_of_lt_of_le (b row hr x hx) hl
theorem Bnd.put {x : Nat} (b : Bnd σ (l ++ [row])) (hx : x < (psA σ).length) : Bnd σ (l ++ [row ++ [x]]) := fun r0 hr y hy => by
  rcases List.mem_append.mp hr with z | z
  · exact b r0 (List.mem_append_left _ z) y hy
  · rw [List.mem_singleton.mp z] at hy
    rcases List.mem_append.mp hy with q | q
    · exact b row (List.mem_append_right _ (List.mem_singleton.mpr rfl)) y q
    · rw [List.mem_singleton.mp q]; exact hx
theorem w_insVL {K : Nat → Nat → JH → Prop} {f : Nat} (hI0 : JInv D h0) (hs0 : s ≤ jsz h0) : ∀ g row σ ρ h d (Q : JO → JH → Prop), Pd D p s a base src h0 h σ0 σ ρ0 ρ → JInv D h → InS (jsz h0) h ρ r nm ns (l ++ [row]) → Bnd σ (l ++ [row]) → psO σ = 0 → 11 ≤ g + row.length → 351 ≤ d →
    (∀ rs σ' ρ' h', JInv D h' → Pd D p s a base src h0 h' σ0 σ' ρ0 ρ' → InS (jsz h0) h' ρ' r nm ns rs → rs.length = l.length + 1 → Bnd σ' rs → psO σ' = 0 → lp σ + 1 ≤ lp σ' → ivL src nm ns f l g row σ = irL src nm ns f rs σ' → K p r h') →
    (∀ h', JInv D h' → (∃ y σ' ρ', ivL src nm ns f l g row σ = .ok (y, σ') ∧ InsR h' ρ' r y ∧ Pd D p s a base src h0 h' σ0 σ' ρ0 ρ' ∧ lp σ ≤ lp σ') → Q (.inl (some (vR 57 r))) h') → (∀ y h', JInv D h' → XE p s src h0 σ0 (ivL src nm ns f l g row σ) y h' → Q (.inr y) h') → L_X17_insert_121 D d Q K g p r h
  | 0, row, σ, ρ, h, d, Q, k, _, u, _, _, hf, _, _, _, _ => by
    have := u.last.2.2.2
    exfalso; omega
  | g + 1, row, σ, ρ, h, d, Q, k, hI, u, hb, ho, hf, hd, hK, hQ, hE => by
    obtain ⟨la, lb, lc, hl⟩ := u.last
    have W := u.2.2.2.2.2.1.2
    refine ⟨u.1.2.1, JW.up (n := 1) (fun _ => t_X23_wide ⟨u.1.2.1, W.1, by rw [la, W.2.2]; exact jin_nI (by omega) (by omega), ?_⟩) (by omega)⟩
    rw [la, ixn_nI (by omega), lc]
    by_cases e8 : row.length = 10
    · refine ⟨fun z => absurd (by rw [e8]; rfl) z, fun _ => ⟨Or.inr rfl, endI fun _ _ => ⟨fun z => absurd z (by decide), fun _ => ⟨k.1.1.2.1, useR0 (w_broken k.1 (by omega)) ?_⟩⟩⟩⟩
      rintro y h1 hI1 _ n1
      refine ⟨n1.1.1, hE y h1 hI1 ⟨tkF (psT σ) + 1, ?_, k.err n1⟩⟩
      unfold ivL pList
      rw [if_pos (by simpa using e8)]; rfl
    · refine ⟨fun _ => ⟨Or.inl rfl, endI fun _ _ => ⟨fun _ => ⟨k.1.1.2.1, ?_⟩, fun z => absurd rfl z⟩⟩, fun z => absurd ((nI_eq (b := 10) (by omega) (by omega)).mp z) e8⟩
      have eq0 := ivL_eq (src := src) (nm := nm) (ns := ns) (l := l) (σ := σ) f g e8
      refine useR (w_expr 31 σ ρ h d k.1 (by omega) (by omega)) ?_ ?_
      · rintro v3 h3 hI3 _ ⟨x3, σ3, ρ3, e3, hv3, n3, l3⟩
        have kd3 : Pd D p s a base src h0 h3 σ0 σ3 ρ0 ρ3 := k.tr n3 (Int.le_refl _) (Int.le_refl _)
        have u3 := POk.inS n3 k.1 hI u hb
        have x3l := expr_lt e3 k.1.2.2.2.2.2.1
        have o3 : psO σ3 = 0 := by rw [← ho]; exact n3.2.2.2.2.1.1
        have b3 : Bnd σ3 (l ++ [row ++ [x3]]) := (hb.mono n3.2.2.2.2.1.len).put x3l
        rw [hv3]
        refine useV0 (w_insValue kd3 hI0 hs0 u3 (by omega) x3l (by omega)) ?_
        rintro h4 hI4 _ ⟨kd4, u4⟩
        refine ⟨kd4.1.sg, ?_⟩
        rw [kd4.1.1.2.2.1]
        refine useI (w_takes kd4.1 "," (by decide +kernel) (by omega)) ?_ ?_
        · rintro v5 h5 hI5 _ ⟨b, σ5, e5, rfl, n5, q5, t5, f5⟩
          have ml5 := n5.2.2.2.2.2
          have kd5 : Pd D p s a base src h0 h5 σ0 σ5 ρ0 ρ3 := Pd.tr kd4 n5 (by omega) (by omega)
          have u5 := POk.inS n5 kd4.1 hI4 u4 b3
          have A5 : psA σ5 = psA σ3 := by unfold psA; rw [q5]
          have o5 : psO σ5 = 0 := by rw [← o3]; unfold psO; rw [q5]
          have b5 : Bnd σ5 (l ++ [row ++ [x3]]) := b3.mono (by rw [A5]; exact Nat.le_refl _)
          cases b with
          | true =>
            refine ⟨fun _ => ?_, fun z => absurd z (by decide)⟩
            have eq1 : ivL src nm ns f l (g + 1) row σ = ivL src nm ns f l g (row ++ [x3]) σ5 := by rw [eq0, e3, ok_bind, e5, ok_bind]; rfl
            rw [eq1] at hK hQ hE
            refine w_insVL hI0 hs0 g _ σ5 ρ3 h5 d Q kd5 hI5 u5 b5 o5 (by simp; omega) hd ?_ ?_ hE
            · intro rs σ6 ρ6 h6 z1 z2 z3 z4 z5 z6 z7 z8
              exact hK rs σ6 ρ6 h6 z1 z2 z3 z4 z5 z6 (by omega) z8
            · rintro h6 hI6 ⟨y6, σ6, ρ6, x1, x2, x3, x4⟩
              exact hQ h6 hI6 ⟨y6, σ6, ρ6, x1, x2, x3, by omega⟩
          | false =>
            refine ⟨fun z => absurd rfl z, fun _ => ⟨kd5.1.sg, ?_⟩⟩
            rw [kd5.1.1.2.2.1]
            have eq1 : ivL src nm ns f l (g + 1) row σ = icL src nm ns f (l ++ [row ++ [x3]]) σ5 := by rw [eq0, e3, ok_bind, e5, ok_bind]; rfl
            refine useV (w_need kd5.1 ")" (by decide +kernel) (by omega)) ?_ ?_
            · rintro h6 hI6 _ ⟨σ6, e6, n6, l6, q6⟩
              have kd6 : Pd D p s a base src h0 h6 σ0 σ6 ρ0 ρ3 := kd5.tr n6 (by omega) (by omega)
              have u6 := POk.inS n6 kd5.1 hI5 u5 b5
              have A6 : psA σ6 = psA σ5 := by unfold psA; rw [q6]
              have o6 : psO σ6 = 0 := by rw [← o5]; unfold psO; rw [q6]
              have b6 : Bnd σ6 (l ++ [row ++ [x3]]) := b5.mono (by rw [A6]; exact Nat.le_refl _)
              refine ⟨kd6.1.sg, ?_⟩
              rw [kd6.1.1.2.2.1]
              refine useI (w_takes kd6.1 "," (by decide +kernel) (by omega)) ?_ ?_
              · rintro v7 h7 hI7 _ ⟨b, σ7, e7, rfl, n7, q7, t7, f7⟩
                have ml7 := n7.2.2.2.2.2
                have kd7 : Pd D p s a base src h0 h7 σ0 σ7 ρ0 ρ3 := kd6.tr n7 (by omega) (by omega)
                have u7 := POk.inS n7 kd6.1 hI6 u6 b6
                have A7 : psA σ7 = psA σ6 := by unfold psA; rw [q7]
                have o7 : psO σ7 = 0 := by rw [← o6]; unfold psO; rw [q7]
                have b7 : Bnd σ7 (l ++ [row ++ [x3]]) := b6.mono (by rw [A7]; exact Nat.le_refl _)
                cases b with
                | true =>
                  refine ⟨fun _ => hK _ σ7 ρ3 h7 hI7 kd7 u7 (by simp) b7 o7 (by omega) ?_, fun z => absurd z (by decide)⟩
                  rw [eq1]; unfold icL; rw [e6, ok_bind, e7, ok_bind]; rfl
                | false =>
                  refine ⟨fun z => absurd rfl z, fun _ => hQ h7 hI7 ⟨inE nm ns (l ++ [row ++ [x3]]) σ7, σ7, ρ3, ?_, ⟨_, u7⟩, kd7, by omega⟩⟩
                  rw [eq1]; unfold icL; rw [e6, ok_bind, e7, ok_bind]; rfl
              · rintro y7 h7 hI7 _ ⟨er, e7, n7⟩
                exact hE y7 h7 hI7 ⟨er, by rw [eq1]; unfold icL; rw [e6, ok_bind, e7]; rfl, kd6.err n7⟩
            · rintro y6 h6 hI6 _ ⟨er, e6, n6⟩
              exact hE y6 h6 hI6 ⟨er, by rw [eq1]; unfold icL; rw [e6]; rfl, kd5.err n6⟩
        · rintro y5 h5 hI5 _ ⟨er, e5, n5⟩
          exact hE y5 h5 hI5 ⟨er, by rw [eq0, e3, ok_bind, e5]; rfl, Pd.err kd4 n5⟩
      · rintro y3 h3 hI3 _ ⟨er, e3, n3⟩
        exact hE y3 h3 hI3 ⟨er, by rw [eq0, e3]; rfl, k.err n3⟩
end
