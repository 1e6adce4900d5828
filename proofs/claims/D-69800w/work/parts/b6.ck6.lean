/-! the component: NOT, minus, IS NULL, pairs are checked -/
theorem Shp.par1 {n : Nod} (hs : Shp n) (o : ndO n = 8 ∨ ndO n = 12 ∨ ndO n = 13) : ∃ p, ndP n = [p] := by
  have hl := hs.one o
  match h : ndP n with
  | [p] => exact ⟨p, rfl⟩
  | [] => rw [h] at hl; cases hl
  | _ :: _ :: _ => rw [h] at hl; simp at hl
theorem Shp.par2 {n : Nod} (hs : Shp n) (o : ndO n = 6 ∨ ndO n = 9 ∨ ndO n = 10 ∨ ndO n = 11 ∨ ndO n = 14) : ∃ p q, ndP n = [p, q] := by
  have hl := hs.two o
  match h : ndP n with
  | [p, q] => exact ⟨p, q, rfl⟩
  | [] => rw [h] at hl; cases hl
  | [_] => rw [h] at hl; simp at hl
  | _ :: _ :: _ :: _ => rw [h] at hl; simp at hl
section
variable {D : JD} {h h' h'' hm h0 : JH} {ρ : Nat → Nat} {A : List Nod} {E : TEnv} {d sc r x i n f p q : Nat} {M : Nat → Prop} {wi : Bool}
theorem tTree_one (e : ndP (nat_ A i) = [p]) (o : ndO (nat_ A i) ≠ 3) : tTree A E (f + 1) wi i = (tTree A E f wi p >>= fun t => tNode E wi (nat_ A i) [t]) := by
  rw [tTree_eq, e]
  have : (wi || (ndO (nat_ A i) == 3 && tGather (ndS (nat_ A i)))) = wi := by
    rw [show (ndO (nat_ A i) == 3) = false by simpa using o]; simp
  rw [this, List.mapM_cons, List.mapM_nil]
  cases tTree A E f wi p <;> rfl
theorem tTree_two (e : ndP (nat_ A i) = [p, q]) (o : ndO (nat_ A i) ≠ 3) : tTree A E (f + 1) wi i = (tTree A E f wi p >>= fun t => tTree A E f wi q >>= fun u => tNode E wi (nat_ A i) [t, u]) := by
  rw [tTree_eq, e]
  have : (wi || (ndO (nat_ A i) == 3 && tGather (ndS (nat_ A i)))) = wi := by
    rw [show (ndO (nat_ A i) == 3) = false by simpa using o]; simp
  rw [this, List.mapM_cons, List.mapM_cons, List.mapM_nil]
  cases tTree A E f wi p with
  | error c => rfl
  | ok t =>
    cases tTree A E f wi q <;> rfl
theorem ck_miss (hA : NOK A) (ri : RI ρ A.length) (IH : CKX D A E ρ sc f) (hi : i < f + 1) (il : i < A.length) (hb : HB A (n + 1) i) (o : ndO (nat_ A i) = 8) (tr : TreeR D h A ρ) (sC : ScC D h sc E) (hw : jfi h 52 sc = (if wi = true then 1 else 0)) (hd : n + 13 ≤ d) :
    cX34_check D d (ρ i) sc h (pR D h 52 (CkOk D A E ρ sc (f + 1) i h (tTree A E (f + 1) wi i)) (CkEr A ρ sc i h (tTree A E (f + 1) wi i))) := by
  obtain ⟨e, rfl, he⟩ := dsucc hd
  have nr := tr i il
  have sh := (hA i il).2.2.1
  obtain ⟨p, ep⟩ := sh.par1 (Or.inl o)
  have f8 := nr.2.2.2.2.2.2.2.2.2.2.2.1 o
  have np : npt (nat_ A i) 0 = p := by unfold npt; rw [ep]; rfl
  have pm : p ∈ ndP (nat_ A i) := by rw [ep]; exact List.mem_cons_self
  have til := (Til.lt (hA i il).2.1).2 p pm
  rw [np] at f8
  refine JW.inv fun hI => t_X34_check ⟨nr.1, ?_⟩
  rw [f8.1]
  refine ⟨(tr p (by omega)).1, useCk (w_ckPart (wi := wi) hA ri IH hi il hb pm tr sC hw (by omega)) ?_ ?_⟩
  · rintro v h1 hI1 ⟨⟨t, t1, t2, t3, t4, t5, t6, t7⟩, tr1, sc1⟩
    have g8 := (tr1 i il).2.2.2.2.2.2.2.2.2.2.2.1 o
    refine ⟨nr.1, ?_⟩
    rw [g8.2.2]
    refine endR fun _ _ _ => ⟨16, ?_, rfl, Or.inr (Or.inl rfl), g8.2.2, t5.mono fun z hz => hz.mono (by omega) (by omega), t6, ⟨fun z => by omega, fun z hz => by rw [ep, List.mem_singleton] at hz; rw [hz]; exact t7⟩⟩
    rw [tTree_one ep (by omega), t1, ok_bind]
    unfold tNode
    rw [o]
    rfl
  · rintro y h1 hI1 ⟨c, hm, c1, c2, c3⟩
    exact endX fun _ _ => ⟨c, hm, by rw [tTree_one ep (by omega), c1]; rfl, c2, c3⟩
theorem tAll_one {a w : Nat} : tAll [a] w = tFits a w := by
  unfold tAll
  show (tFits a w >>= fun _ => Except.ok ()) = _
  cases tFits a w <;> rfl
theorem tAll_two {a b w : Nat} : tAll [a, b] w = (tFits a w >>= fun _ => tFits b w) := by
  unfold tAll
  show (tFits a w >>= fun _ => tFits b w >>= fun _ => Except.ok ()) = _
  cases tFits a w with
  | error c => rfl
  | ok u => cases tFits b w <;> rfl
theorem ck_turn (hA : NOK A) (ri : RI ρ A.length) (IH : CKX D A E ρ sc f) (hi : i < f + 1) (il : i < A.length) (hb : HB A (n + 1) i) (o : ndO (nat_ A i) = 12 ∨ ndO (nat_ A i) = 13) (tr : TreeR D h A ρ) (sC : ScC D h sc E) (hw : jfi h 52 sc = (if wi = true then 1 else 0)) (hd : n + 13 ≤ d) :
    cX32_check D d (ρ i) sc h (pR D h 52 (CkOk D A E ρ sc (f + 1) i h (tTree A E (f + 1) wi i)) (CkEr A ρ sc i h (tTree A E (f + 1) wi i))) := by
  obtain ⟨e, rfl, he⟩ := dsucc hd
  have nr := tr i il
  have sh := (hA i il).2.2.1
  obtain ⟨p, ep⟩ := sh.par1 (Or.inr o)
  have f9 := nr.2.2.2.2.2.2.2.2.2.2.2.2 o
  have np : npt (nat_ A i) 0 = p := by unfold npt; rw [ep]; rfl
  have pm : p ∈ ndP (nat_ A i) := by rw [ep]; exact List.mem_cons_self
  have til := (Til.lt (hA i il).2.1).2 p pm
  have mi : NM A ρ (ndL (nat_ A i)) (i + 1) (ρ i) := nmI il (hA i il).1 (by omega) (by omega)
  rw [np] at f9
  refine JW.inv fun hI => ?_
  -- the type is known beforehand
  have go : ∀ ty, TyOk ty → (∀ t, tNode E wi (nat_ A i) [t] = (tFits t ty).map fun _ => ty) → W_X32_check_17 D e (pR D h 52 (CkOk D A E ρ sc (f + 1) i h (tTree A E (f + 1) wi i)) (CkEr A ρ sc i h (tTree A E (f + 1) wi i))) (ρ i) sc (ρ i) (tyc D ty) h := by
    intro ty hty eqN
    refine ⟨nr.1, ?_⟩
    rintro h1 q1
    have c1 : CkF sc (NM A ρ (ndL (nat_ A i)) (i + 1)) h h1 := by rw [q1]; exact CkF.ty mi
    have tr1 := tr.ck ri hI c1 sC.1.2
    have sC1 := sC.ck c1 tr.nd
    have w1 : jfi h1 52 sc = jfi h 52 sc := by rw [q1]; rfl
    have ty1 : jfr h1 109 (ρ i) = tyc D ty := by rw [q1, jfr_wfr, if_pos ⟨rfl, rfl⟩]
    have f122 : jfr h1 122 (ρ i) = ρ p := by rw [c1.2.2.2.2.1 122 _ fun z => absurd z (by decide)]; exact f9.2
    clear q1
    refine ⟨nr.1, ?_⟩
    rw [f122]
    refine ⟨(tr1 p (by omega)).1, useCk (w_ckPart (wi := wi) hA ri IH hi il hb pm tr1 sC1 (by rw [w1]; exact hw) (by omega)) ?_ ?_⟩
    · rintro v h2 hI2 ⟨⟨t, t1, t2, t3, t4, t5, t6, t7⟩, tr2, sc2⟩
      have ty2 : jfr h2 109 (ρ i) = tyc D ty := by rw [t5.tyOut ri il (Or.inl (by omega))]; exact ty1
      have c2 := c1.tr (t5.mono fun z hz => hz.mono (by omega) (by omega))
      refine ⟨nr.1, ?_⟩
      rw [ty2, t2]
      refine useV (w_tneed t3 hty (by omega)) ?_ ?_
      · rintro h3 hI3 _ ⟨f3, rfl⟩
        rw [ty2]
        refine endR fun _ _ _ => ⟨ty, ?_, rfl, hty, ty2, c2, t6.trans w1, ⟨fun z => by omega, fun z hz => by rw [ep, List.mem_singleton] at hz; rw [hz]; exact t7⟩⟩
        rw [tTree_one ep (by omega), t1, ok_bind, eqN, f3]; rfl
      · rintro y h3 hI3 _ ⟨f3, x3⟩
        exact endX fun _ _ => ⟨_, h2, by rw [tTree_one ep (by omega), t1, ok_bind, eqN, f3]; rfl, c2, x3⟩
    · rintro y h2 hI2 ⟨c, hm, d1, d2, d3⟩
      exact endX fun _ _ => ⟨c, hm, by rw [tTree_one ep (by omega), d1]; rfl, c1.tr d2, d3⟩
  refine t_X32_check ⟨nr.1, ?_⟩
  rw [f9.1]
  rcases o with z | z
  · rw [if_pos z]
    refine ⟨fun y => absurd y (by decide), fun _ => go 16 (Or.inr (Or.inl rfl)) fun t => ?_⟩
    unfold tNode
    rw [z]
    show (tAll [t] 16).map _ = _
    rw [tAll_one]
  · rw [if_neg (by omega)]
    refine ⟨fun _ => go 20 (Or.inr (Or.inr (Or.inl rfl))) fun t => ?_, fun y => absurd rfl y⟩
    unfold tNode
    rw [z]
    show (tAll [t] 20).map _ = _
    rw [tAll_one]
/-! pairs -/
theorem jord_op : jord 358 = 2 ∧ jord 359 = 3 ∧ jord 360 = 4 ∧ jord 361 = 0 ∧ jord 362 = 1 ∧ jord 363 = 5 ∧ jord 364 = 6 ∧ jord 365 = 7 ∧ jord 366 = 8 ∧ jord 367 = 9 ∧ jord 368 = 10 ∧ jord 369 = 11 ∧ jord 370 = 14 ∧ jord 371 = 12 ∧ jord 372 = 13 := by decide
theorem w_ord {j : Nat} (hj : (Nat.ble j 372 && jenm j) = true) (hd : 1 ≤ d) : cJ11_ordinal D d (jcs D j) h (pI D h (fun v h' => v = jord j ∧ h' = h) no) := by
  obtain ⟨e, rfl, he⟩ := dsucc hd
  refine JW.inv fun hI => ?_
  have k := k_ord hI hj
  exact t_J11_ordinal ⟨k.2, endI fun _ _ => ⟨k.1, rfl⟩⟩
theorem w_compares {j : Nat} (r0 : r ≠ 0) (e : jfr h 123 r = jcs D j) (hj : (Nat.ble j 372 && jenm j) = true) (hd : 2 ≤ d) : cX33_compares D d r h (pI D h (fun v h' => v = (if jord j < 6 ∨ 11 < jord j then 0 else 1) ∧ h' = h) no) := by
  obtain ⟨e', rfl, he⟩ := dsucc hd
  refine JW.inv fun hI => t_X33_compares ⟨r0, ?_⟩
  rw [e]
  refine ⟨cst0 hI hj, useI0 (w_ord hj he) ?_⟩
  rintro v1 h1 _ _ ⟨rfl, rfl⟩
  refine ⟨cst0 hI (by decide), useI0 (w_ord (j := 364) (by decide) he) ?_⟩
  rintro v2 h2 _ _ ⟨rfl, rfl⟩
  rw [jord_op.2.2.2.2.2.2.1]
  refine ⟨fun z => ⟨jbo0, endI fun _ _ => ⟨by rw [if_pos (Or.inl z)], rfl⟩⟩, fun z => ?_⟩
  rw [e]
  refine ⟨cst0 hI hj, useI0 (w_ord hj he) ?_⟩
  rintro v3 h3 _ _ ⟨rfl, rfl⟩
  refine ⟨cst0 hI (by decide), useI0 (w_ord (j := 369) (by decide) he) ?_⟩
  rintro v4 h4 _ _ ⟨rfl, rfl⟩
  rw [jord_op.2.2.2.2.2.2.2.2.2.2.2.1]
  refine ⟨fun y => ⟨jbo0, endI fun _ _ => ⟨by rw [if_pos (Or.inr y)], rfl⟩⟩, fun y => ⟨jbo1, endI fun _ _ => ⟨by rw [if_neg (by rintro (b | b); exact z b; exact y b)], rfl⟩⟩⟩
/-- the end of a pair's check: its type -/
theorem w_p98 {j ty : Nat} {Q : JO → JH → Prop} (hI : JInv D h) (r0 : r ≠ 0) (e : jfr h 123 r = jcs D j) (hj : (Nat.ble j 372 && jenm j) = true) (hty : tyc D ty = (if 5 ≤ jord j then (if j = 363 then tyc D 25 else tyc D 16) else tyc D 20)) (hd : 1 ≤ d)
    (hQ : Q (.inl (some (vR 52 (tyc D ty)))) (wfr h 109 r (tyc D ty))) : W_X33_check_98 D d Q r h := by
  have fin : ∀ t, t = tyc D ty → W_X33_check_140 D d Q r r t h := fun t ht => by
    refine ⟨r0, ?_⟩
    rintro h1 rfl
    refine ⟨r0, ?_⟩
    rw [show jfr (wfr h 109 r t) 109 r = t by rw [jfr_wfr, if_pos ⟨rfl, rfl⟩], ht]
    exact hQ
  refine ⟨r0, ?_⟩
  rw [e]
  refine ⟨cst0 hI hj, useI0 (w_ord hj hd) ?_⟩
  rintro v1 h1 _ _ ⟨rfl, rfl⟩
  refine ⟨cst0 hI (by decide), useI0 (w_ord (j := 363) (by decide) hd) ?_⟩
  rintro v2 h2 _ _ ⟨rfl, rfl⟩
  rw [jord_op.2.2.2.2.2.1]
  refine ⟨fun z => ?_, fun z => ?_⟩
  · rw [if_pos z] at hty
    rw [e]
    refine ⟨fun y => fin _ ?_, fun y => fin _ ?_⟩
    · rw [if_neg fun b => y (by rw [b])] at hty
      rw [hty]; rfl
    · have : j = 363 := by
        simp only [Bool.and_eq_true, Nat.ble_eq] at hj
        exact kc_ne hI ⟨by omega, hj.2⟩ ⟨by decide, by decide⟩ y
      rw [if_pos this] at hty
      rw [hty]; rfl
  · rw [if_neg z] at hty
    exact fin _ (by rw [hty]; rfl)
end
