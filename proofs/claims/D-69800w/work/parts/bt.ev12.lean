/-! the component: IN, BETWEEN -/
section
variable {D : JD} {h h' h'' hm h0 h1 h2 h3 hb : JH} {ρ : Nat → Nat} {A : List Nod} {E Ec : TEnv} {d sc r x i n f c q lo hi t : Nat} {M : Nat → Prop} {pv : List Val} {grp : List TRow} {R : TRow} {G : TRow → JH → Prop} {wi : Bool} {z : Ex Val} {w : Val}
/-- of IN and BETWEEN: all parts are of one type -/
theorem with_ty (o : ndO (nat_ A i) = 5 ∨ ndO (nat_ A i) = 7) (ht : tTree A Ec (f + 1) wi i = .ok t) : ∃ (ts : List Nat) (u : Nat), (∀ (k p : Nat), (ndP (nat_ A i))[k]? = some p → ∃ u, ts[k]? = some u ∧ tTree A Ec f wi p = .ok u) ∧ ∀ v ∈ ts, v = 0 ∨ v = u := by
  obtain ⟨ts, _, t2, t3⟩ := part_ty (by omega) ht
  have : ∃ u, tOne ts = .ok u := by
    unfold tNode at t3
    rcases o with o | o
    · rw [o] at t3
      obtain ⟨u, u1, _⟩ := mpd t3
      exact ⟨u, u1⟩
    · rw [o] at t3
      obtain ⟨u, u1, _⟩ := mpd t3
      exact ⟨u, u1⟩
  obtain ⟨u, u1⟩ := this
  exact ⟨ts, u, t2, (one_sub ts 0 u u1).2⟩
theorem w_eAmong (C : EvC A E Ec ρ pv grp) (hG : EvG D A ρ sc G) (IH : EVX D A E Ec ρ sc pv grp G f) (hi : i < f + 1) (il : i < A.length) (hB : HB A (n + 1) i) (o : ndO (nat_ A i) = 5) (S : EvI D A E Ec ρ sc pv G R h) (pl : PlT A E h ρ (f + 1) i) (ht : tTree A Ec (f + 1) wi i = .ok t) (hd : 2 * n + 21 ≤ d) :
    cX35_among D d (ρ i) sc h (EQ D A E ρ sc pv i R h h (eTree A E pv grp (f + 1) R i)) := by
  obtain ⟨e, rfl, he⟩ := dsucc hd
  obtain ⟨ts, u, tg, ts1⟩ := with_ty (Or.inl o) ht
  have l2 : 2 ≤ (ndP (nat_ A i)).length := by
    rcases (C.1 i il).2.2.1 with h | h | h | h | h | h | h | h | h | h | h | h | h
    all_goals first | exact h.2.2.1 | (exfalso; have := h.1; omega)
  obtain ⟨p0, h0⟩ : ∃ p0, (ndP (nat_ A i))[0]? = some p0 := ⟨_, List.getElem?_eq_getElem (by omega)⟩
  obtain ⟨g1, g2, g3, g4, g5, g6⟩ := (EvS.rf S).part C il (by omega) h0
  obtain ⟨v, v1, v2⟩ := tg 0 p0 h0
  have pm := List.mem_of_getElem? h0
  have ee : eTree A E pv grp (f + 1) R i = (eTree A E pv grp f R p0 >>= fun x => ((ndP (nat_ A i)).drop 1).foldlM (inF A E pv grp f R x) (false, false) >>= amE) := by
    rw [eT_5 o]; unfold evK
    rw [List.getD_eq_getElem?_getD, h0]; rfl
  refine JW.inv fun hI => t_X35_among ⟨(S.1 i il).1, g1, g2, ?_⟩
  rw [show (0 : Int32) = nI 0 from rfl, g3]
  refine ⟨g4, useAt (w_evNext C hG IH hi il hB pm S hI (EvS.rf S) (pl.2 p0 pm) v2 (by omega)) ?_ ?_⟩
  · rintro va h1 _ hI1 ⟨x, a1, a2, a3, a4, S1, a6, a7, -⟩
    have k1 : 1 + ((ndP (nat_ A i)).length - 1) = (ndP (nat_ A i)).length := by omega
    exact ⟨(ndP (nat_ A i)).length - 1 + 1, w_eAmongL C hG IH hi il hB o S hI (by omega) h0 (a3.sub (ts1 v (List.mem_of_getElem? v1))) tg ts1 _ 1 false h1 hI1 k1 (by decide) S1 a2 a4 (fun p hp => a7 p (by have := (Til.lt (C.1 i il).2.1).2 p hp; omega) (pl.2 p hp)) (by rw [ee, a1]; rfl)⟩
  · rintro y h1 _ hI1 ⟨c, hm, c1, c2, c3⟩
    exact endX fun _ _ => ⟨c, hm, by rw [ee, c1]; rfl, c2, c3⟩
/-- BETWEEN: whether one of the two is missing, then how they stand -/
theorem w_eBetween (C : EvC A E Ec ρ pv grp) (hG : EvG D A ρ sc G) (IH : EVX D A E Ec ρ sc pv grp G f) (hi : i < f + 1) (il : i < A.length) (hB : HB A (n + 1) i) (o : ndO (nat_ A i) = 7) (S : EvI D A E Ec ρ sc pv G R h) (pl : PlT A E h ρ (f + 1) i) (ht : tTree A Ec (f + 1) wi i = .ok t) (hd : 2 * n + 21 ≤ d) :
    cX35_between D d (ρ i) sc h (EQ D A E ρ sc pv i R h h (eTree A E pv grp (f + 1) R i)) := by
  obtain ⟨e, rfl, he⟩ := dsucc hd
  obtain ⟨ts, u, tg, ts1⟩ := with_ty (Or.inr o) ht
  have l3 : (ndP (nat_ A i)).length = 3 := by
    rcases (C.1 i il).2.2.1 with h | h | h | h | h | h | h | h | h | h | h | h | h
    all_goals first | exact h.2.2 | (exfalso; have := h.1; omega)
  obtain ⟨p0, h0⟩ : ∃ p0, (ndP (nat_ A i))[0]? = some p0 := ⟨_, List.getElem?_eq_getElem (by omega)⟩
  obtain ⟨p1, h1'⟩ : ∃ p0, (ndP (nat_ A i))[1]? = some p0 := ⟨_, List.getElem?_eq_getElem (by omega)⟩
  obtain ⟨p2, h2'⟩ : ∃ p0, (ndP (nat_ A i))[2]? = some p0 := ⟨_, List.getElem?_eq_getElem (by omega)⟩
  obtain ⟨g1, g2, g3, g4, g5, g6⟩ := (EvS.rf S).part C il (by omega) h0
  obtain ⟨v, v1, v2⟩ := tg 0 p0 h0
  obtain ⟨v', v1', v2'⟩ := tg 1 p1 h1'
  obtain ⟨w, w1, w2⟩ := tg 2 p2 h2'
  have pm := List.mem_of_getElem? h0
  have pm1 := List.mem_of_getElem? h1'
  have pm2 := List.mem_of_getElem? h2'
  have til1 := (Til.lt (C.1 i il).2.1).2 p1 pm1
  have til2 := (Til.lt (C.1 i il).2.1).2 p2 pm2
  have ord1 := Til.ord (C.1 i il).2.1 0 1 p0 p1 (by omega) h0 h1'
  have ord2 := Til.ord (C.1 i il).2.1 0 2 p0 p2 (by omega) h0 h2'
  have o0 : ndO (nat_ A i) ≠ 0 := by omega
  have ee : eTree A E pv grp (f + 1) R i = (eTree A E pv grp f R p0 >>= fun x => eTree A E pv grp f R p1 >>= fun lo => if vFalse (vTold 5 x lo) = true then .ok (vTold 5 x lo) else eTree A E pv grp f R p2 >>= fun hi => .ok (if (vFalse (vTold 3 x hi) || (vTold 5 x lo).1 != 0) = true then vTold 3 x hi else vTold 5 x lo)) := by
    rw [eT_7 o]; unfold evK
    rw [List.getD_eq_getElem?_getD, h0, List.getD_eq_getElem?_getD, h1', List.getD_eq_getElem?_getD, h2']; rfl
  have nr := S.1 i il
  refine JW.inv fun hI => t_X35_between ⟨nr.1, g1, g2, ?_⟩
  rw [show (0 : Int32) = nI 0 from rfl, g3]
  refine ⟨g4, useAt (w_evNext C hG IH hi il hB pm S hI (EvS.rf S) (pl.2 p0 pm) v2 (by omega)) ?_ ?_⟩
  · rintro va h1 _ hI1 ⟨x, a1, a2, a3, a4, S1, a6, a7, -⟩
    have a3 := a3.sub (ts1 v (List.mem_of_getElem? v1))
    obtain ⟨q1, q2, q3, q4, q5, q6⟩ := S1.part C il (by omega) h1'
    refine ⟨nr.1, q1, q2, ?_⟩
    rw [show (1 : Int32) = nI 1 from rfl, q3]
    refine ⟨q4, useAt (w_evNext C hG IH hi il hB pm1 S hI S1 (a7 p1 (by omega) (pl.2 p1 pm1)) v2' (by omega)) ?_ ?_⟩
    · rintro vl h2 _ hI2 ⟨lo, b1, b2, b3, b4, S2, b6, b7, -⟩
      have b3 := b3.sub (ts1 v' (List.mem_of_getElem? v1'))
      have ka2 := a4.keep S1.2 hI1 C.2.1 (by omega) a2 b6 (Or.inr ord1)
      have e2 : eTree A E pv grp (f + 1) R i = (if vFalse (vTold 5 x lo) = true then .ok (vTold 5 x lo) else eTree A E pv grp f R p2 >>= fun hi => .ok (if (vFalse (vTold 3 x hi) || (vTold 5 x lo).1 != 0) = true then vTold 3 x hi else vTold 5 x lo)) := by rw [ee, a1, ok_bind, b1, ok_bind]
      have third : ∀ x4 : Int32, vFalse (vTold 5 x lo) = false → ((x4 = 0 ∧ vTold 5 x lo = vBool true) ∨ (x4 ≠ 0 ∧ vTold 5 x lo = vNull)) → W_X35_between_65 D e (EQ D A E ρ sc pv i R h h (eTree A E pv grp (f + 1) R i)) (ρ i) sc va x4 h2 := fun x4 nf hx4 => by
        obtain ⟨r1, r2, r3, r4, r5, r6⟩ := S2.part C il (by omega) h2'
        refine ⟨nr.1, r1, r2, ?_⟩
        rw [show (2 : Int32) = nI 2 from rfl, r3]
        refine ⟨r4, useAt (w_evNext C hG IH hi il hB pm2 S hI S2 (b7 p2 (by omega) (a7 p2 (by omega) (pl.2 p2 pm2))) w2 (by omega)) ?_ ?_⟩
        · rintro vh h3 _ hI3 ⟨hg, c1, c2, c3, c4, S3, c6, c7, -⟩
          have c3 := c3.sub (ts1 w (List.mem_of_getElem? w1))
          have ka3 := ka2.2.keep S2.2 hI2 C.2.1 (by omega) ka2.1 c6 (Or.inr ord2)
          have own := (S3.2.1 i il).2.2.1.1
          have e3 : eTree A E pv grp (f + 1) R i = .ok (if (vFalse (vTold 3 x hg) || (vTold 5 x lo).1 != 0) = true then vTold 3 x hg else vTold 5 x lo) := by
            rw [e2, nf, if_neg (by decide), c1, ok_bind]
          have end' : ∀ x6 : Int32, ((x6 = 0 ∧ vTold 3 x hg = vBool true) ∨ (x6 ≠ 0 ∧ vTold 3 x hg = vNull)) → W_X35_between_122 D e (EQ D A E ρ sc pv i R h h (eTree A E pv grp (f + 1) R i)) (ρ i) x4 x6 h3 := fun x6 hx6 => by
            have none : eTree A E pv grp (f + 1) R i = .ok vNull → W_X35_between_132 D e (EQ D A E ρ sc pv i R h h (eTree A E pv grp (f + 1) R i)) (ρ i) h3 := fun y => ⟨nr.1, own, fin_none C S3 il o0 y (by omega)⟩
            refine ⟨fun y4 => none ?_, fun y4 => ⟨fun y6 => ⟨nr.1, own, fin_truth C S3 il o0 ?_ (by omega)⟩, fun y6 => none ?_⟩⟩
            · rcases hx4 with z | z
              · exact absurd z.1 y4
              · rcases hx6 with y | y
                · rw [e3, z.2, y.2]; rfl
                · rw [e3, z.2, y.2]; rfl
            · rcases hx4 with z | z
              · rcases hx6 with y | y
                · rw [e3, z.2, y.2]; rfl
                · exact absurd y6 y.1
              · exact absurd y4 z.1
            · rcases hx4 with z | z
              · rcases hx6 with y | y
                · exact absurd y.1 y6
                · rw [e3, z.2, y.2]; rfl
              · exact absurd y4 z.1
          refine ⟨ka3.1.1.1, JW.up (n := 1) (fun y => useI0 (k_cEmpty (d := y) ka3.1) ?_) (by omega)⟩
          rintro v3 h4 hI4 _ ⟨rfl, he4⟩
          have he4 := he4.symm
          subst he4
          have nul : x.1 = 0 ∨ hg.1 = 0 → W_X35_between_92 D e (EQ D A E ρ sc pv i R h h (eTree A E pv grp (f + 1) R i)) (ρ i) va x4 vh h3 := fun y =>
            ⟨fun _ => end' 1 (Or.inr ⟨by decide, toldN y⟩), fun z => absurd z (by decide)⟩
          by_cases xz : x.1 = 0
          · rw [if_pos xz]
            exact ⟨fun _ => nul (Or.inl xz), fun y => absurd y (by decide)⟩
          rw [if_neg xz]
          refine ⟨fun y => absurd rfl y, fun _ => ⟨c2.1.1, JW.up (n := 1) (fun y => useI0 (k_cEmpty (d := y) c2) ?_) (by omega)⟩⟩
          rintro v4 h5 hI5 _ ⟨rfl, he5⟩
          have he5 := he5.symm
          subst he5
          by_cases yz : hg.1 = 0
          · rw [if_pos yz]
            exact ⟨fun y => absurd y (by decide), fun _ => nul (Or.inr yz)⟩
          rw [if_neg yz]
          have et : x.1 = hg.1 := by
            have := a3.2
            have := c3.2
            omega
          have tl : vTold 3 x hg = vBool (decide (vCmp x hg ≤ 0)) := told_ok (k := 3) (by omega)
          refine ⟨fun _ => ⟨fun z => absurd rfl z, fun _ => ⟨ka3.1.1.1, JW.up (n := 2) (fun y => useI0 (k_order (d := y) ka3.1 c2 xz et) ?_) (by omega)⟩⟩, fun y => absurd rfl y⟩
          rintro v5 h6 hI6 _ ⟨sx, he6⟩
          have he6 := he6.symm
          subst he6
          refine ⟨fun y => end' 0 (Or.inl ⟨rfl, ?_⟩), fun y => ⟨nr.1, own, fin_truth C S3 il o0 ?_ (by omega)⟩⟩
          · rw [tl, decide_eq_true (sx.le.mp y)]
          · rw [decide_eq_false (fun z => y (sx.le.mpr z))] at tl
            rw [e3, tl]; rfl
        · rintro y h3 _ hI3 ⟨c, hm, c1, c2, c3⟩
          exact endX fun _ _ => ⟨c, hm, by rw [e2, nf, if_neg (by decide), c1]; rfl, c2, c3⟩
      refine ⟨ka2.1.1.1, JW.up (n := 1) (fun y => useI0 (k_cEmpty (d := y) ka2.1) ?_) (by omega)⟩
      rintro v3 h4 hI4 _ ⟨rfl, he4⟩
      have he4 := he4.symm
      subst he4
      have nul : x.1 = 0 ∨ lo.1 = 0 → W_X35_between_36 D e (EQ D A E ρ sc pv i R h h (eTree A E pv grp (f + 1) R i)) (ρ i) sc va vl h2 := fun y =>
        ⟨fun _ => third 1 (by rw [toldN y]; rfl) (Or.inr ⟨by decide, toldN y⟩), fun z => absurd z (by decide)⟩
      by_cases xz : x.1 = 0
      · rw [if_pos xz]
        exact ⟨fun _ => nul (Or.inl xz), fun y => absurd y (by decide)⟩
      rw [if_neg xz]
      refine ⟨fun y => absurd rfl y, fun _ => ⟨b2.1.1, JW.up (n := 1) (fun y => useI0 (k_cEmpty (d := y) b2) ?_) (by omega)⟩⟩
      rintro v4 h5 hI5 _ ⟨rfl, he5⟩
      have he5 := he5.symm
      subst he5
      by_cases yz : lo.1 = 0
      · rw [if_pos yz]
        exact ⟨fun y => absurd y (by decide), fun _ => nul (Or.inr yz)⟩
      rw [if_neg yz]
      have et : x.1 = lo.1 := by
        have := a3.2
        have := b3.2
        omega
      have tl : vTold 5 x lo = vBool (decide (0 ≤ vCmp x lo)) := told_ok (k := 5) (by omega)
      refine ⟨fun _ => ⟨fun z => absurd rfl z, fun _ => ⟨ka2.1.1.1, JW.up (n := 2) (fun y => useI0 (k_order (d := y) ka2.1 b2 xz et) ?_) (by omega)⟩⟩, fun y => absurd rfl y⟩
      rintro v5 h6 hI6 _ ⟨sx, he6⟩
      have he6 := he6.symm
      subst he6
      refine ⟨fun y => ?_, fun y => ⟨nr.1, (S2.2.1 i il).2.2.1.1, fin_truth C S2 il o0 ?_ (by omega)⟩⟩
      · rw [decide_eq_true (sx.ge.mp y)] at tl
        exact third 0 (by rw [tl]; rfl) (Or.inl ⟨rfl, tl⟩)
      · rw [decide_eq_false (fun z => y (sx.ge.mpr z))] at tl
        rw [e2, tl]; rfl
    · rintro y h2 _ hI2 ⟨c, hm, c1, c2, c3⟩
      exact endX fun _ _ => ⟨c, hm, by rw [ee, a1, ok_bind, c1]; rfl, c2, c3⟩
  · rintro y h1 _ hI1 ⟨c, hm, c1, c2, c3⟩
    exact endX fun _ _ => ⟨c, hm, by rw [ee, c1]; rfl, c2, c3⟩
theorem ev_with (C : EvC A E Ec ρ pv grp) (hG : EvG D A ρ sc G) (IH : EVX D A E Ec ρ sc pv grp G f) (hi : i < f + 1) (il : i < A.length) (hB : HB A (n + 1) i) (o : ndO (nat_ A i) = 5 ∨ ndO (nat_ A i) = 7) (S : EvI D A E Ec ρ sc pv G R h) (pl : PlT A E h ρ (f + 1) i) (ht : tTree A Ec (f + 1) wi i = .ok t) (hd : 2 * n + 22 ≤ d) :
    cX35_at D d (ρ i) sc h (EQ D A E ρ sc pv i R h h (eTree A E pv grp (f + 1) R i)) := by
  obtain ⟨e, rfl, he⟩ := dsucc hd
  have nr := S.1 i il
  refine t_X35_at ⟨nr.1, ?_⟩
  rcases o with o | o
  · rw [nr.2.2.2.2.2.2.2.2.1 o]
    exact ⟨fun _ => EQ.in (w_eAmong C hG IH hi il hB o S pl ht (by omega)), fun y => absurd rfl y⟩
  · rw [nr.2.2.2.2.2.2.2.2.2.1 o]
    exact ⟨fun y => absurd y (by decide), fun _ => EQ.in (w_eBetween C hG IH hi il hB o S pl ht (by omega))⟩
end
