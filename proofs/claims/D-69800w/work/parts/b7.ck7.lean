/-! the component: pairs are checked -/
theorem tSame_0 {t : Nat} : tSame 0 t = .ok t := rfl
theorem tOne_two {t u : Nat} : tOne [t, u] = tSame t u := by
  unfold tOne
  show (tSame 0 t >>= fun x => tSame x u >>= fun y => Except.ok y) = _
  rw [tSame_0, ok_bind]
  cases tSame t u <;> rfl
/-- of a pair: its sign, what its parts are due, its type -/
def PrK (n : Nod) (j du ty : Nat) : Prop :=
  opN n = j ∧ (Nat.ble j 372 && jenm j) = true ∧ TyOk du ∧ TyOk ty ∧ ty = (if 5 ≤ jord j then (if j = 363 then 25 else 16) else 20) ∧
  ((¬ (jord j < 6 ∨ 11 < jord j) ∧ ∀ E wi t u, tNode E wi n [t, u] = (tFits t u).map fun _ => ty) ∨
    ((jord j < 6 ∨ 11 < jord j) ∧ du = (if 5 ≤ jord j then (if j = 363 ∨ j = 370 then 25 else 16) else 20) ∧ ∀ E wi t u, tNode E wi n [t, u] = (tAll [t, u] du).map fun _ => ty))
theorem ty16 : TyOk 16 := Or.inr (Or.inl rfl)
theorem ty20 : TyOk 20 := Or.inr (Or.inr (Or.inl rfl))
theorem ty25 : TyOk 25 := Or.inr (Or.inr (Or.inr rfl))
theorem tN_9 {E : TEnv} {wi : Bool} {n : Nod} {t u : Nat} (o : ndO n = 9) : tNode E wi n [t, u] = (tFits t u).map fun _ => 16 := by
  unfold tNode
  rw [o]
  show (tOne [t, u]).map _ = _
  rw [tOne_two]
  unfold tSame
  cases tFits t u <;> rfl
theorem pair_k {n : Nod} (hs : Shp n) (o : ndO n = 6 ∨ ndO n = 9 ∨ ndO n = 10 ∨ ndO n = 11 ∨ ndO n = 14) : ∃ j du ty, PrK n j du ty := by
  have k5 : ndO n = 9 ∨ ndO n = 14 → ndK n ≤ 5 := fun z => by
    rcases hs with h | h | h | h | h | h | h | h | h | h | h | h | h
    all_goals first | exact h.2.1 | (exfalso; have := h.1; omega)
  rcases o with o | o | o | o | o
  · refine ⟨370, 25, 16, by (unfold opN; rw [o]; rfl), by decide, ty25, ty16, by decide, Or.inr ⟨by decide, by decide, fun E wi t u => ?_⟩⟩
    unfold tNode
    rw [o]
    rfl
  · have k := k5 (Or.inl o)
    have e : opN n = 364 + ndK n := by unfold opN; rw [o]; rfl
    have r : ∀ E wi t u, tNode E wi n [t, u] = (tFits t u).map fun _ => 16 := fun E wi t u => tN_9 o
    rcases (show ndK n = 0 ∨ ndK n = 1 ∨ ndK n = 2 ∨ ndK n = 3 ∨ ndK n = 4 ∨ ndK n = 5 by omega) with z | z | z | z | z | z
    all_goals (rw [z] at e; exact ⟨_, 16, 16, e, by decide, ty16, ty16, by decide, Or.inl ⟨by decide, r⟩⟩)
  · refine ⟨371, 16, 16, by (unfold opN; rw [o]; rfl), by decide, ty16, ty16, by decide, Or.inr ⟨by decide, by decide, fun E wi t u => ?_⟩⟩
    unfold tNode
    rw [o]
    rfl
  · refine ⟨372, 16, 16, by (unfold opN; rw [o]; rfl), by decide, ty16, ty16, by decide, Or.inr ⟨by decide, by decide, fun E wi t u => ?_⟩⟩
    unfold tNode
    rw [o]
    rfl
  · have k := k5 (Or.inr o)
    have e : opN n = [361, 362, 358, 359, 360, 363].getD (ndK n) 361 := by unfold opN; rw [o]; rfl
    by_cases z5 : ndK n = 5
    · rw [z5] at e
      refine ⟨_, 25, 25, e, by decide, ty25, ty25, by decide, Or.inr ⟨by decide, by decide, fun E wi t u => ?_⟩⟩
      unfold tNode
      rw [o]
      show (if (ndK n == 5) = true then _ else _) = _
      rw [if_pos (by simpa using z5)]
    · have r : ∀ E wi t u, tNode E wi n [t, u] = (tAll [t, u] 20).map fun _ => 20 := fun E wi t u => by
        unfold tNode
        rw [o]
        show (if (ndK n == 5) = true then _ else _) = _
        rw [if_neg (by simpa using z5)]
      rcases (show ndK n = 0 ∨ ndK n = 1 ∨ ndK n = 2 ∨ ndK n = 3 ∨ ndK n = 4 by omega) with z | z | z | z | z
      all_goals (rw [z] at e; exact ⟨_, 20, 20, e, by decide, ty20, ty20, by decide, Or.inr ⟨by decide, by decide, r⟩⟩)
section
variable {D : JD} {h h' h'' hm h0 : JH} {ρ : Nat → Nat} {A : List Nod} {E : TEnv} {d sc r x i n f p q : Nat} {M : Nat → Prop} {wi : Bool}
theorem ck_pair (hA : NOK A) (ri : RI ρ A.length) (IH : CKX D A E ρ sc f) (hi : i < f + 1) (il : i < A.length) (hb : HB A (n + 1) i) (o : ndO (nat_ A i) = 6 ∨ ndO (nat_ A i) = 9 ∨ ndO (nat_ A i) = 10 ∨ ndO (nat_ A i) = 11 ∨ ndO (nat_ A i) = 14) (tr : TreeR D h A ρ) (sC : ScC D h sc E) (hw : jfi h 52 sc = (if wi = true then 1 else 0)) (hd : n + 13 ≤ d) :
    cX33_check D d (ρ i) sc h (pR D h 52 (CkOk D A E ρ sc (f + 1) i h (tTree A E (f + 1) wi i)) (CkEr A ρ sc i h (tTree A E (f + 1) wi i))) := by
  obtain ⟨e, rfl, he⟩ := dsucc hd
  have nr := tr i il
  have sh := (hA i il).2.2.1
  obtain ⟨p, q, ep⟩ := sh.par2 o
  obtain ⟨j, du, ty, e1, hj, hdu, hty, ety, kind⟩ := pair_k sh o
  have f7 := nr.2.2.2.2.2.2.2.2.2.2.1 o
  have np : npt (nat_ A i) 0 = p ∧ npt (nat_ A i) 1 = q := by unfold npt; rw [ep]; exact ⟨rfl, rfl⟩
  have pm : p ∈ ndP (nat_ A i) := by rw [ep]; exact List.mem_cons_self
  have qm : q ∈ ndP (nat_ A i) := by rw [ep]; exact List.mem_cons_of_mem _ List.mem_cons_self
  have tilp := (Til.lt (hA i il).2.1).2 p pm
  have tilq := (Til.lt (hA i il).2.1).2 q qm
  have ord := Til.ord (hA i il).2.1 0 1 p q (by decide) (by rw [ep]; rfl) (by rw [ep]; rfl)
  have mi : NM A ρ (ndL (nat_ A i)) (i + 1) (ρ i) := nmI il (hA i il).1 (by omega) (by omega)
  rw [np.1, np.2, e1] at f7
  have eqT := tTree_two (E := E) (f := f) (wi := wi) ep (by omega)
  refine JW.inv fun hI => t_X33_check ⟨nr.1, ?_⟩
  rw [f7.2.1]
  refine ⟨(tr p (by omega)).1, useCk (w_ckPart (wi := wi) hA ri IH hi il hb pm tr sC hw (by omega)) ?_ ?_⟩
  · rintro v1 h1 hI1 ⟨⟨t, t1, t2, t3, t4, t5, t6, t7⟩, tr1, sc1⟩
    have g7 := (tr1 i il).2.2.2.2.2.2.2.2.2.2.1 o
    rw [np.1, np.2, e1] at g7
    refine ⟨nr.1, ?_⟩
    rw [g7.2.2]
    refine ⟨(tr1 q (by omega)).1, useCk (w_ckPart (wi := wi) hA ri IH hi il hb qm tr1 sc1 (by rw [t6]; exact hw) (by omega)) ?_ ?_⟩
    · rintro v2 h2 hI2 ⟨⟨u, u1, u2, u3, u4, u5, u6, u7⟩, tr2, sc2⟩
      have k7 := ((tr2 i il).2.2.2.2.2.2.2.2.2.2.1 o).1
      rw [e1] at k7
      have c2 : CkF sc (NM A ρ (ndL (nat_ A i)) (i + 1)) h h2 := (t5.mono fun z hz => hz.mono (by omega) (by omega)).tr (u5.mono fun z hz => hz.mono (by omega) (by omega))
      have w2 : jfi h2 52 sc = jfi h 52 sc := u6.trans t6
      have pl : PlT A E h2 ρ f p ∧ PlT A E h2 ρ f q := ⟨PlT.ck hA ri u5 f p (by omega) (Or.inr ord) t7, u7⟩
      have en : (tNode E wi (nat_ A i) [t, u] = .ok ty) → (pR D h 52 (CkOk D A E ρ sc (f + 1) i h (tTree A E (f + 1) wi i)) (CkEr A ρ sc i h (tTree A E (f + 1) wi i))) (.inl (some (vR 52 (tyc D ty)))) (wfr h2 109 (ρ i) (tyc D ty)) := fun eN => by
        refine endR fun _ _ _ => ⟨ty, by rw [eqT, t1, ok_bind, u1, ok_bind]; exact eN, rfl, hty, by rw [jfr_wfr, if_pos ⟨rfl, rfl⟩], c2.tr (CkF.ty mi), w2, ⟨fun z => by omega, fun z hz => ?_⟩⟩
        have pp : ∀ z, PlT A E h2 ρ f z → PlT A E (wfr h2 109 (ρ i) (tyc D ty)) ρ f z := fun z => PlT.ty9 f z
        rw [ep] at hz
        rcases List.mem_cons.mp hz with y | y
        · rw [y]; exact pp _ pl.1
        · rw [List.mem_singleton.mp y]; exact pp _ pl.2
      have er : ∀ c y h3, tNode E wi (nat_ A i) [t, u] = .error c → Flt h2 h3 y c → (pR D h 52 (CkOk D A E ρ sc (f + 1) i h (tTree A E (f + 1) wi i)) (CkEr A ρ sc i h (tTree A E (f + 1) wi i))) (.inr y) h3 := fun c y h3 eN x3 =>
        endX fun _ _ => ⟨c, h2, by rw [eqT, t1, ok_bind, u1, ok_bind]; exact eN, c2, x3⟩
      have tyE : tyc D ty = (if 5 ≤ jord j then (if j = 363 then tyc D 25 else tyc D 16) else tyc D 20) := by
        rw [ety]
        split
        · split <;> rfl
        · rfl
      rw [t2, u2]
      refine ⟨nr.1, useI0 (w_compares nr.1 k7 hj (by omega)) ?_⟩
      rintro v3 h3 _ _ ⟨rfl, rfl⟩
      rcases kind with ⟨kc, kn⟩ | ⟨kc, kd, kn⟩
      · rw [if_neg kc]
        refine ⟨fun z => absurd z (by decide), fun _ => useV (w_tneed t3 u3 (by omega)) ?_ ?_⟩
        · rintro h4 hI4 _ ⟨f4, rfl⟩
          exact w_p98 hI4 nr.1 k7 hj tyE (by omega) (en (by rw [kn, f4]; rfl))
        · rintro y h4 hI4 _ ⟨f4, x4⟩
          exact er _ y h4 (by rw [kn, f4]; rfl) x4
      · rw [if_pos kc]
        refine ⟨fun _ => ?_, fun z => absurd rfl z⟩
        have s84 : W_X33_check_84 D e (pR D h 52 (CkOk D A E ρ sc (f + 1) i h (tTree A E (f + 1) wi i)) (CkEr A ρ sc i h (tTree A E (f + 1) wi i))) (ρ i) (tyc D t) (tyc D u) (tyc D du) h3 := by
          refine useV (w_tneed t3 hdu (by omega)) ?_ ?_
          · rintro h4 hI4 _ ⟨f4, rfl⟩
            refine useV (w_tneed u3 hdu (by omega)) ?_ ?_
            · rintro h5 hI5 _ ⟨f5, rfl⟩
              exact w_p98 hI5 nr.1 k7 hj tyE (by omega) (en (by rw [kn, tAll_two, f4, ok_bind, f5]; rfl))
            · rintro y h5 hI5 _ ⟨f5, x5⟩
              exact er _ y h5 (by rw [kn, tAll_two, f4, ok_bind, f5]; rfl) x5
          · rintro y h4 hI4 _ ⟨f4, x4⟩
            exact er _ y h4 (by rw [kn, tAll_two, f4]; rfl) x4
        have hj' : j < 373 ∧ jenm j = true := by
          simp only [Bool.and_eq_true, Nat.ble_eq] at hj
          exact ⟨by omega, hj.2⟩
        rw [k7]
        refine ⟨cst0 hI2 hj, useI0 (w_ord hj (by omega)) ?_⟩
        rintro v4 h4 _ _ ⟨rfl, rfl⟩
        refine ⟨cst0 hI2 (by decide), useI0 (w_ord (j := 363) (by decide) (by omega)) ?_⟩
        rintro v5 h5 _ _ ⟨rfl, rfl⟩
        rw [jord_op.2.2.2.2.2.1]
        refine ⟨fun z => ?_, fun z => ?_⟩
        · rw [if_pos z] at kd
          rw [k7]
          refine ⟨fun y => ?_, fun y => ⟨fun b => ?_, fun b => ?_⟩⟩
          · have := kc_ne hI2 hj' ⟨by decide, by decide⟩ y
            rw [if_pos (Or.inl this)] at kd
            rw [kd] at s84
            exact s84
          · rw [if_neg (by rintro (w | w); exact y (by rw [w]); exact b (by rw [w]))] at kd
            rw [kd] at s84
            exact s84
          · have := kc_ne hI2 hj' ⟨by decide, by decide⟩ b
            rw [if_pos (Or.inr this)] at kd
            rw [kd] at s84
            exact s84
        · rw [if_neg z] at kd
          rw [kd] at s84
          exact s84
    · rintro y h2 hI2 ⟨c, hm, c1, c2, c3⟩
      exact endX fun _ _ => ⟨c, hm, by rw [eqT, t1, ok_bind, c1]; rfl, (t5.mono fun z hz => hz.mono (by omega) (by omega)).tr c2, c3⟩
  · rintro y h1 hI1 ⟨c, hm, c1, c2, c3⟩
    exact endX fun _ _ => ⟨c, hm, by rw [eqT, c1]; rfl, c2, c3⟩
end
