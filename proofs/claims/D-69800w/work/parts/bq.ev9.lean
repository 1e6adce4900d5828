/-! the component: pairs of trees -/
section
variable {D : JD} {h h' h'' hm h0 h1 h2 h3 hb : JH} {ρ : Nat → Nat} {A : List Nod} {E Ec : TEnv} {d sc r x i n f c q lo hi t : Nat} {M : Nat → Prop} {pv : List Val} {grp : List TRow} {R : TRow} {G : TRow → JH → Prop} {wi : Bool} {z : Ex Val} {w : Val}
theorem ev_two (C : EvC A E Ec ρ pv grp) (hG : EvG D A ρ sc G) (IH : EVX D A E Ec ρ sc pv grp G f) (hi : i < f + 1) (il : i < A.length) (hB : HB A (n + 1) i) (o : ndO (nat_ A i) = 6 ∨ ndO (nat_ A i) = 9 ∨ ndO (nat_ A i) = 14) (S : EvI D A E Ec ρ sc pv G R h) (pl : PlT A E h ρ (f + 1) i) (ht : tTree A Ec (f + 1) wi i = .ok t) (hd : 2 * n + 22 ≤ d) :
    cX33_at D d (ρ i) sc h (EQ D A E ρ sc pv i R h h (eTree A E pv grp (f + 1) R i)) := by
  obtain ⟨e, rfl, he⟩ := dsucc hd
  have o' : ndO (nat_ A i) = 6 ∨ ndO (nat_ A i) = 9 ∨ ndO (nat_ A i) = 10 ∨ ndO (nat_ A i) = 11 ∨ ndO (nat_ A i) = 14 := by omega
  obtain ⟨p, q, tu, tv, ep, np, nq, pm, qm, pi, qi, ord, hu, hv, hN, k5, ea, eb⟩ := pair_get C il o' ht
  have nr := S.1 i il
  have f7 := nr.2.2.2.2.2.2.2.2.2.2.1 o'
  rw [np, nq] at f7
  have ee := eT_pr (A := A) (E := E) (pv := pv) (grp := grp) (f := f) (R := R) o
  rw [ea, eb] at ee
  have t6 : (ndO (nat_ A i) = 6 ∨ ndO (nat_ A i) = 14 ∧ ndK (nat_ A i) = 5) → (tu = 0 ∨ tu = 25) ∧ (tv = 0 ∨ tv = 25) := fun y => by
    have : ∃ x, tAll [tu, tv] 25 = .ok x := by
      unfold tNode at hN
      rcases y with y | ⟨y, y'⟩
      · rw [y] at hN
        obtain ⟨x, x1, _⟩ := mpd hN; exact ⟨x, x1⟩
      · rw [y] at hN
        have hN : (if (ndK (nat_ A i) == 5) = true then (tAll [tu, tv] 25).map fun _ => 25 else (tAll [tu, tv] 20).map fun _ => 20) = .ok t := hN
        rw [if_pos (by simpa using y')] at hN
        obtain ⟨x, x1, _⟩ := mpd hN; exact ⟨x, x1⟩
    obtain ⟨x, x1⟩ := this
    have := all_sub [tu, tv] 25 (by decide) x1
    exact ⟨this tu (by simp), this tv (by simp)⟩
  have t14 : ndO (nat_ A i) = 14 → ndK (nat_ A i) ≠ 5 → (tu = 0 ∨ tu = 20) ∧ (tv = 0 ∨ tv = 20) := fun y y' => by
    have : ∃ x, tAll [tu, tv] 20 = .ok x := by
      unfold tNode at hN
      rw [y] at hN
      have hN : (if (ndK (nat_ A i) == 5) = true then (tAll [tu, tv] 25).map fun _ => 25 else (tAll [tu, tv] 20).map fun _ => 20) = .ok t := hN
      rw [if_neg (by simpa using y')] at hN
      obtain ⟨x, x1, _⟩ := mpd hN; exact ⟨x, x1⟩
    obtain ⟨x, x1⟩ := this
    have := all_sub [tu, tv] 20 (by decide) x1
    exact ⟨this tu (by simp), this tv (by simp)⟩
  have t9 : ndO (nat_ A i) = 9 → tu = 0 ∨ tv = 0 ∨ tu = tv := fun y => by
    rw [tN_9 y] at hN
    obtain ⟨x, x1, _⟩ := mpd hN
    unfold tFits xMust at x1
    split at x1
    · rename_i hx
      simpa using hx
    · cases x1
  have nj : (jfr h 123 (ρ i) = jcs D 371 ∨ jfr h 123 (ρ i) = jcs D 372) → JInv D h → False := fun y hI => by
    rw [f7.1] at y
    have := opN_lt o k5
    obtain ⟨j, ej, j1, j2⟩ := this
    rw [ej] at y
    rcases y with y | y
    · have := kc_ne hI j2 ⟨by decide, by decide⟩ y; omega
    · have := kc_ne hI j2 ⟨by decide, by decide⟩ y; omega
  refine JW.inv fun hI => t_X33_at ⟨nr.1, fun y => absurd (nj (Or.inl y) hI) (fun z => z), fun _ => ⟨fun _ => ?_, fun y => absurd (nj (Or.inr y) hI) (fun z => z)⟩⟩
  rw [f7.2.1]
  refine ⟨(S.1 p (by omega)).1, useAt (w_evNext C hG IH hi il hB pm S hI (EvS.rf S) (pl.2 p pm) hu (by omega)) ?_ ?_⟩
  · rintro va h1 _ hI1 ⟨a, a1, a2, a3, a4, S1, a6, a7, -⟩
    have g7 := (S1.2.1 i il).2.2.2.2.2.2.2.2.2.2.1 o'
    rw [np, nq] at g7
    refine ⟨nr.1, ?_⟩
    rw [g7.2.2]
    refine ⟨(S1.2.1 q (by omega)).1, useAt (w_evNext C hG IH hi il hB qm S hI S1 (a7 q (by omega) (pl.2 q qm)) hv (by omega)) ?_ ?_⟩
    · rintro vb h2 _ hI2 ⟨b, b1, b2, b3, b4, S2, b6, -⟩
      have ka := a4.keep S1.2 hI1 C.2.1 (by omega) a2 b6 (Or.inr ord)
      refine w_pair43 C hI2 S2 il o rfl (fun y => k5 (by omega)) ka.1 b2 (ka.2.ne S2.2 hI2 C.2.1 (by omega) il (by omega)) (b4.ne S2.2 hI2 C.2.1 (by omega) il (by omega)) (fun y => ⟨a3.sub (t6 y).1, b3.sub (t6 y).2⟩) (fun y => ?_) (fun y y' => ⟨a3.sub (t14 y y').1, b3.sub (t14 y y').2⟩) (by rw [ee, a1, ok_bind, b1, ok_bind]) (by omega)
      have := t9 y
      have := a3.2
      have := b3.2
      omega
    · rintro y h2 _ hI2 ⟨c, hm, c1, c2, c3⟩
      exact endX fun _ _ => ⟨c, hm, by rw [ee, a1, ok_bind, c1]; rfl, c2, c3⟩
  · rintro y h1 _ hI1 ⟨c, hm, c1, c2, c3⟩
    exact endX fun _ _ => ⟨c, hm, by rw [ee, c1]; rfl, c2, c3⟩
end
