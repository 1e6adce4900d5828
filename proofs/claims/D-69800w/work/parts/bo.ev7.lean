/-! the component: AND, OR; pairs -/
section
variable {D : JD} {h h' h'' hm h0 h1 h2 h3 hb : JH} {ρ : Nat → Nat} {A : List Nod} {E Ec : TEnv} {d sc r x i n f c q lo hi t : Nat} {M : Nat → Prop} {pv : List Val} {grp : List TRow} {R : TRow} {G : TRow → JH → Prop} {wi : Bool} {z : Ex Val} {w : Val}
/-- of a pair: its parts -/
theorem pair_get (C : EvC A E Ec ρ pv grp) (il : i < A.length) (o : ndO (nat_ A i) = 6 ∨ ndO (nat_ A i) = 9 ∨ ndO (nat_ A i) = 10 ∨ ndO (nat_ A i) = 11 ∨ ndO (nat_ A i) = 14) (ht : tTree A Ec (f + 1) wi i = .ok t) :
    ∃ p q u v, ndP (nat_ A i) = [p, q] ∧ npt (nat_ A i) 0 = p ∧ npt (nat_ A i) 1 = q ∧ p ∈ ndP (nat_ A i) ∧ q ∈ ndP (nat_ A i) ∧ p < i ∧ q < i ∧ p < ndL (nat_ A q) ∧ tTree A Ec f wi p = .ok u ∧ tTree A Ec f wi q = .ok v ∧ tNode Ec wi (nat_ A i) [u, v] = .ok t ∧ (ndO (nat_ A i) = 9 ∨ ndO (nat_ A i) = 14 → ndK (nat_ A i) ≤ 5) ∧ (∀ R, evK A E pv grp f R i 0 = eTree A E pv grp f R p) ∧ ∀ R, evK A E pv grp f R i 1 = eTree A E pv grp f R q := by
  have sh := (C.1 i il).2.2.1
  obtain ⟨p, q, ep⟩ := sh.par2 o
  have pm : p ∈ ndP (nat_ A i) := by rw [ep]; exact List.mem_cons_self
  have qm : q ∈ ndP (nat_ A i) := by rw [ep]; exact List.mem_cons_of_mem _ List.mem_cons_self
  have tilp := (Til.lt (C.1 i il).2.1).2 p pm
  have tilq := (Til.lt (C.1 i il).2.1).2 q qm
  have ord := Til.ord (C.1 i il).2.1 0 1 p q (by decide) (by rw [ep]; rfl) (by rw [ep]; rfl)
  rw [tTree_two ep (by omega)] at ht
  obtain ⟨u, hu, ht⟩ := bnd ht
  obtain ⟨v, hv, ht⟩ := bnd ht
  refine ⟨p, q, u, v, ep, by unfold npt; rw [ep]; rfl, by unfold npt; rw [ep]; rfl, pm, qm, by omega, by omega, ord, hu, hv, ht, fun z => ?_, fun R => by unfold evK; rw [ep]; rfl, fun R => by unfold evK; rw [ep]; rfl⟩
  rcases sh with h | h | h | h | h | h | h | h | h | h | h | h | h
  all_goals first | exact h.2.1 | (exfalso; have := h.1; omega)
/-- AND, OR of two values -/
def lgX (or : Bool) (v : Val) : Bool := if or = true then vTrue v else vFalse v
theorem eT_lg {or : Bool} (o : ndO (nat_ A i) = if or = true then 11 else 10) : eTree A E pv grp (f + 1) R i = (evK A E pv grp f R i 0 >>= fun a => if lgX or a = true then .ok a else evK A E pv grp f R i 1 >>= fun b => .ok (if lgX or b = true then b else if (a.1 == 0) = true then a else b)) := by
  cases or with
  | true => exact eT_11 o
  | false => exact eT_10 o
theorem lgX_null {or : Bool} : lgX or vNull = false := by cases or <;> rfl
theorem lgX_bool {or b : Bool} : lgX or (vBool b) = (b == or) := by cases or <;> cases b <;> rfl
theorem w_logic {or : Bool} (C : EvC A E Ec ρ pv grp) (hG : EvG D A ρ sc G) (IH : EVX D A E Ec ρ sc pv grp G f) (hi : i < f + 1) (il : i < A.length) (hB : HB A (n + 1) i) (o : ndO (nat_ A i) = if or = true then 11 else 10) (S : EvI D A E Ec ρ sc pv G R h) (pl : PlT A E h ρ (f + 1) i) (ht : tTree A Ec (f + 1) wi i = .ok t) (hd : 2 * n + 21 ≤ d) :
    cX33_logic D d (ρ i) sc h (EQ D A E ρ sc pv i R h h (eTree A E pv grp (f + 1) R i)) := by
  obtain ⟨e, rfl, he⟩ := dsucc hd
  have o' : ndO (nat_ A i) = 6 ∨ ndO (nat_ A i) = 9 ∨ ndO (nat_ A i) = 10 ∨ ndO (nat_ A i) = 11 ∨ ndO (nat_ A i) = 14 := by rw [o]; cases or <;> simp
  have o0 : ndO (nat_ A i) ≠ 0 := by omega
  obtain ⟨p, q, tu, tv, ep, np, nq, pm, qm, pi, qi, ord, hu, hv, hN, _, ea, eb⟩ := pair_get C il o' ht
  have sub : (tu = 0 ∨ tu = 16) ∧ (tv = 0 ∨ tv = 16) := by
    unfold tNode at hN
    rw [o] at hN
    have : ∃ x, tAll [tu, tv] 16 = .ok x := by
      cases or with
      | true => obtain ⟨x, x1, _⟩ := mpd hN; exact ⟨x, x1⟩
      | false => obtain ⟨x, x1, _⟩ := mpd hN; exact ⟨x, x1⟩
    obtain ⟨x, x1⟩ := this
    have := all_sub [tu, tv] 16 (by decide) x1
    exact ⟨this tu (by simp), this tv (by simp)⟩
  have nr := S.1 i il
  have f7 := nr.2.2.2.2.2.2.2.2.2.2.1 o'
  rw [np, nq] at f7
  have ee := eT_lg (A := A) (E := E) (pv := pv) (grp := grp) (f := f) (R := R) o
  rw [ea, eb] at ee
  generalize hx2 : (if or = true then (1 : Int32) else 0) = x2
  have x20 : decide (x2 ≠ 0) = or := by rw [← hx2]; cases or <;> rfl
  have go : JInv D h → W_X33_logic_15 D e (EQ D A E ρ sc pv i R h h (eTree A E pv grp (f + 1) R i)) (ρ i) sc x2 h := fun hI => by
    refine ⟨nr.1, ?_⟩
    rw [f7.2.1]
    refine ⟨(S.1 p (by omega)).1, useAt (w_evNext C hG IH hi il hB pm S hI (EvS.rf S) (pl.2 p pm) hu (by omega)) ?_ ?_⟩
    · rintro va h1 _ hI1 ⟨a, a1, a2, a3, a4, S1, a6, a7, -⟩
      have ta := a3.sub sub.1
      have nr1 := S1.2.1 i il
      have g7 := nr1.2.2.2.2.2.2.2.2.2.2.1 o'
      rw [np, nq] at g7
      have second : ∀ x4 : Int32, lgX or a = false → (x4 = if a.1 = 0 then 1 else 0) → W_X33_logic_53 D e (EQ D A E ρ sc pv i R h h (eTree A E pv grp (f + 1) R i)) (ρ i) sc x2 x4 h1 := fun x4 na hx4 => by
        refine ⟨nr.1, ?_⟩
        rw [g7.2.2]
        refine ⟨(S1.2.1 q (by omega)).1, useAt (w_evNext C hG IH hi il hB qm S hI S1 (a7 q (by omega) (pl.2 q qm)) hv (by omega)) ?_ ?_⟩
        · rintro vb h2 _ hI2 ⟨b, b1, b2, b3, b4, S2, -⟩
          have tb := b3.sub sub.2
          have nr2 := S2.2.1 i il
          have own := nr2.2.2.1.1
          have ez : eTree A E pv grp (f + 1) R i = .ok (if lgX or b = true then b else if (a.1 == 0) = true then a else b) := by
            rw [ee, a1, ok_bind, if_neg (by rw [na]; decide), b1]; rfl
          refine ⟨b2.1.1, JW.up (n := 1) (fun y => useI0 (k_cEmpty (d := y) b2) ?_) (by omega)⟩
          rintro v3 h3 hI3 _ ⟨rfl, he3⟩
          have he3 := he3.symm
          subst he3
          have none : lgX or b = false → (a.1 = 0 ∨ b.1 = 0) → W_X33_logic_102 D e (EQ D A E ρ sc pv i R h h (eTree A E pv grp (f + 1) R i)) (ρ i) h2 := fun y1 y2 => by
            refine ⟨nr.1, own, fin_none C S2 il o0 ?_ (by omega)⟩
            rw [ez, y1, if_neg (by decide)]
            by_cases az : a.1 = 0
            · rw [if_pos (by simpa using az), a3.1.null az]
            · rw [if_neg (by simpa using az), b3.1.null (by omega)]
          have l89 : lgX or b = false → W_X33_logic_89 D e (EQ D A E ρ sc pv i R h h (eTree A E pv grp (f + 1) R i)) (ρ i) x2 x4 vb h2 := fun y1 => by
            refine ⟨fun y => none y1 (Or.inl ?_), fun y => ⟨b2.1.1, JW.up (n := 1) (fun y' => useI0 (k_cEmpty (d := y') b2) ?_) (by omega)⟩⟩
            · apply Classical.byContradiction
              intro az
              rw [if_neg az] at hx4
              exact y hx4
            · have az : ¬ a.1 = 0 := fun az => by
                rw [if_pos az] at hx4
                rw [hx4] at y
                exact absurd y (by decide)
              rintro v4 h4 hI4 _ ⟨rfl, he4⟩
              have he4 := he4.symm
              subst he4
              by_cases bz : b.1 = 0
              · rw [if_pos bz]
                exact ⟨fun y => absurd y (by decide), fun _ => none y1 (Or.inr bz)⟩
              · rw [if_neg bz]
                obtain ⟨bb, rfl⟩ := tb.1.bool (tb.2.resolve_left bz)
                rw [lgX_bool] at y1
                have ev : eTree A E pv grp (f + 1) R i = .ok (vBool (!or)) := by
                  rw [ez, lgX_bool, y1, if_neg (by decide), if_neg (by simpa using az)]
                  cases or <;> cases bb <;> first | rfl | cases y1
                refine ⟨fun _ => ⟨nr.1, fun y => ⟨own, fin_truth C S2 il o0 ?_ (by omega)⟩, fun y => ⟨own, fin_truth C S2 il o0 ?_ (by omega)⟩⟩, fun y => absurd rfl y⟩
                · rw [ev, ← x20, decide_eq_true y]; rfl
                · rw [ev, ← x20, y]; rfl
          by_cases bz : b.1 = 0
          · rw [if_pos bz]
            exact ⟨fun _ => l89 (by rw [b3.1.null bz]; exact lgX_null), fun y => absurd y (by decide)⟩
          · rw [if_neg bz]
            refine ⟨fun y => absurd rfl y, fun _ => JW.up (n := 1) (fun y => useI0 (k_cTrue (d := y) b2 tb.2) ?_) (by omega)⟩
            rintro v4 h4 hI4 _ ⟨rfl, he4⟩
            have he4 := he4.symm
            subst he4
            obtain ⟨bb, rfl⟩ := tb.1.bool (tb.2.resolve_left bz)
            refine ⟨fun y => l89 ?_, fun y => ⟨nr.1, own, fin_truth C S2 il o0 ?_ (by omega)⟩⟩
            · rw [lgX_bool]
              rw [← hx2] at y
              cases or <;> cases bb <;> first | rfl | exact absurd rfl y
            · have : bb = or := by
                rw [← hx2] at y
                cases or <;> cases bb <;> first | rfl | exact absurd y (by decide)
              rw [ez, lgX_bool, this, if_pos (by cases or <;> rfl), x20]
        · rintro y h2 _ hI2 ⟨c, hm, c1, c2, c3⟩
          exact endX fun _ _ => ⟨c, hm, by rw [ee, a1, ok_bind, if_neg (by rw [na]; decide), c1]; rfl, c2, c3⟩
      refine ⟨a2.1.1, JW.up (n := 1) (fun y => useI0 (k_cEmpty (d := y) a2) ?_) (by omega)⟩
      rintro v3 h3 hI3 _ ⟨ev3, he3⟩
      have he3 := he3.symm
      subst he3
      by_cases az : a.1 = 0
      · refine ⟨fun _ => second v3 (by rw [a3.1.null az]; exact lgX_null) ev3, fun y => ?_⟩
        rw [if_pos az] at ev3
        rw [ev3] at y
        exact absurd y (by decide)
      · have e0 : v3 = 0 := by rw [if_neg az] at ev3; exact ev3
        refine ⟨fun y => absurd e0 y, fun _ => JW.up (n := 1) (fun y => useI0 (k_cTrue (d := y) a2 ta.2) ?_) (by omega)⟩
        rintro v4 h4 hI4 _ ⟨rfl, he4⟩
        have he4 := he4.symm
        subst he4
        obtain ⟨bb, rfl⟩ := ta.1.bool (ta.2.resolve_left az)
        refine ⟨fun y => second v3 ?_ ev3, fun y => ⟨nr.1, nr1.2.2.1.1, fin_truth C S1 il o0 ?_ (by omega)⟩⟩
        · rw [lgX_bool]
          rw [← hx2] at y
          cases or <;> cases bb <;> first | rfl | exact absurd rfl y
        · have : bb = or := by
            rw [← hx2] at y
            cases or <;> cases bb <;> first | rfl | exact absurd y (by decide)
          rw [ee, a1, ok_bind, lgX_bool, this, if_pos (by cases or <;> rfl), x20]
    · rintro y h1 _ hI1 ⟨c, hm, c1, c2, c3⟩
      exact endX fun _ _ => ⟨c, hm, by rw [ee, c1]; rfl, c2, c3⟩
  refine JW.inv fun hI => t_X33_logic ⟨nr.1, ?_⟩
  rw [f7.1]
  cases or with
  | true =>
    rw [show opN (nat_ A i) = 372 by unfold opN; rw [o]; rfl]
    rw [← hx2] at go
    exact ⟨fun y => absurd rfl y, fun _ => go hI⟩
  | false =>
    rw [show opN (nat_ A i) = 371 by unfold opN; rw [o]; rfl]
    rw [← hx2] at go
    exact ⟨fun _ => go hI, fun y => absurd (kc_ne hI ⟨by decide, by decide⟩ ⟨by decide, by decide⟩ y) (by decide)⟩
end
