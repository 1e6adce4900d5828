/-! the component: COUNT, SUM, MIN, MAX are checked; the contract of check -/
section
variable {D : JD} {h h' h'' hm h0 : JH} {ρ : Nat → Nat} {A : List Nod} {E : TEnv} {d sc r x i n f p q : Nat} {M : Nat → Prop} {wi : Bool} {ps ts : List Nat} {nm : Str}
def knA (s : Str) (star : Bool) (c : Nat) : Bool := if star = true then s == sStr "count" else c == 1
def agS (E : TEnv) (wi : Bool) (s : Str) (ts : List Nat) : Ex Nat := if (E.2.2 && !wi) = true then (if s = sStr "count" then .ok 20 else if s = sStr "sum" then tFits (ts.headD 0) 20 >>= fun _ => .ok 20 else .ok (ts.headD 0)) else xErr "42803"
theorem tFun_agg {s : Str} {star : Bool} (hg : star = true ∨ tGather s = true) (hs : star = true → ts = []) : tFun E wi s star ts = (if knA s star ts.length = true then agS E wi s ts else xErr "42883") := by
  cases star with
  | true =>
    have := hs rfl
    subst this
    by_cases c : s = sStr "count"
    · subst c
      have hg' : tGather (sStr "count") = true := by decide +kernel
      unfold tFun knA agS
      simp only [hg', if_true, beq_self_eq_true, Bool.not_true, Bool.false_or]
      cases (E.2.2 && !wi) <;> rfl
    · have b : (s == sStr "count") = false := by simpa using c
      unfold tFun knA
      simp only [b, if_true, Bool.false_eq_true, if_false]
      rfl
  | false =>
    have hg : tGather s = true := by
      rcases hg with z | z
      · cases z
      · exact z
    unfold tFun knA agS
    simp only [hg, Bool.or_true, Bool.false_eq_true, if_false, if_true, Bool.not_true, Bool.false_or]
    cases hl : (ts.length == 1) with
    | false => rfl
    | true =>
      obtain ⟨t, rfl⟩ := len1 hl
      show (xMust (E.2.2 && !wi) "42803" >>= _) = (if (E.2.2 && !wi) = true then _ else _)
      cases (E.2.2 && !wi) with
      | false => rfl
      | true =>
        rw [if_pos rfl]
        show (if (s == sStr "count") = true then _ else _) = _
        by_cases c1 : s = sStr "count"
        · rw [if_pos (by simpa using c1), if_pos c1]
        · rw [if_neg (by simpa using c1), if_neg c1]
          by_cases c2 : s = sStr "sum"
          · rw [if_pos (by rw [c2]; simp), if_pos c2, tAll_one]
            show ((tFits t 20).map fun _ => 20) = (tFits t 20 >>= fun _ => Except.ok 20)
            exact ex_map
          · have c3 : s = sStr "min" ∨ s = sStr "max" := by
              unfold tGather at hg
              simp only [Bool.or_eq_true, beq_iff_eq] at hg
              rcases hg with z | z | z | z
              · exact absurd z c1
              · exact absurd z c2
              · exact Or.inl z
              · exact Or.inr z
            have c4 : s ≠ sStr "abs" := by
              rcases c3 with z | z
              · exact nmNe z "abs" (by decide +kernel)
              · exact nmNe z "abs" (by decide +kernel)
            rw [if_neg (by simp [c2, c4]), if_neg c2, if_pos (by simpa using c3)]
theorem PtT.w52 {v : Int32} (P : PtT D h ρ r ps ts) : PtT D (wfi h 52 sc v) ρ r ps ts := by
  obtain ⟨⟨p1, p2, p3, p4⟩, P2⟩ := P
  exact ⟨⟨p1, p2, by rw [jfi_wfi, if_neg fun z => absurd z.1 (by decide)]; exact p3, p4⟩, P2⟩
theorem ck_agg (hA : NOK A) (ri : RI ρ A.length) (IH : CKX D A E ρ sc f) (hi : i < f + 1) (il : i < A.length) (hb : HB A (n + 1) i) (o : ndO (nat_ A i) = 3) (hk : ndK (nat_ A i) = 1 ∨ tGather (ndS (nat_ A i)) = true) (tr : TreeR D h A ρ) (sC : ScC D h sc E) (hw : jfi h 52 sc = (if wi = true then 1 else 0)) (hd : n + 13 ≤ d) :
    cX28_check D d (ρ i) sc h (pR D h 52 (CkOk D A E ρ sc (f + 1) i h (tTree A E (f + 1) wi i)) (CkEr A ρ sc i h (tTree A E (f + 1) wi i))) := by
  obtain ⟨e, rfl, he⟩ := dsucc hd
  have sh := (hA i il).2.2.1
  have mi : NM A ρ (ndL (nat_ A i)) (i + 1) (ρ i) := nmI il (hA i il).1 (by omega) (by omega)
  have o4 : ndO (nat_ A i) = 3 ∨ ndO (nat_ A i) = 4 ∨ ndO (nat_ A i) = 5 ∨ ndO (nat_ A i) = 7 := Or.inl o
  have nk : nkd (nat_ A i) = 22 := by
    unfold nkd
    rw [o]
    show (if ndK (nat_ A i) = 1 ∨ tGather (ndS (nat_ A i)) = true then 22 else 23) = 22
    rw [if_pos hk]
  have k01 : ndK (nat_ A i) = 0 ∨ (ndK (nat_ A i) = 1 ∧ ndP (nat_ A i) = []) := by
    rcases sh with h | h | h | h | h | h | h | h | h | h | h | h | h
    all_goals first | exact h.2.2 | (exfalso; have := h.1; omega)
  have eqT : tTree A E (f + 1) wi i = ((ndP (nat_ A i)).mapM (tTree A E f true) >>= fun ts => if knA (ndS (nat_ A i)) (ndK (nat_ A i) == 1) ts.length = true then agS E wi (ndS (nat_ A i)) ts else xErr "42883") := by
    have ft : ∀ ts, ts.length = (ndP (nat_ A i)).length → tNode E wi (nat_ A i) ts = (if knA (ndS (nat_ A i)) (ndK (nat_ A i) == 1) ts.length = true then agS E wi (ndS (nat_ A i)) ts else xErr "42883") := fun ts tl => by
      unfold tNode
      rw [o]
      show tFun E wi (ndS (nat_ A i)) (ndK (nat_ A i) == 1) ts = _
      refine tFun_agg ?_ fun z => ?_
      · rcases hk with z | z
        · exact Or.inl (by simpa using z)
        · exact Or.inr z
      · have : ndK (nat_ A i) = 1 := by simpa using z
        rcases k01 with y | y
        · omega
        · rw [y.2] at tl
          exact List.length_eq_zero_iff.mp tl
    rw [tTree_eq]
    rcases k01 with y | y
    · have hg : tGather (ndS (nat_ A i)) = true := by
        rcases hk with z | z
        · omega
        · exact z
      have : (wi || (ndO (nat_ A i) == 3 && tGather (ndS (nat_ A i)))) = true := by rw [hg, o]; simp
      rw [this]
      cases hm : (ndP (nat_ A i)).mapM (tTree A E f true) with
      | error c => rfl
      | ok ts =>
        show tNode E wi (nat_ A i) ts = _
        exact ft ts (mapM_len hm)
    · rw [y.2]
      show tNode E wi (nat_ A i) [] = _
      rw [ft [] (by rw [y.2])]; rfl
  have nr := tr i il
  have pts := nr.2.2.2.2.2.2.2.1 o4
  have f3 := (nr.2.2.2.2.2.2.1 o).1 nk
  have len := sh.len
  refine JW.inv fun hI => ?_
  have scb : jbs D < sc := hI.2.1 _ (by rw [sC.1.2]; decide)
  have scl : sc ≤ jsz h := hI.lt (by rw [sC.1.2]; decide)
  have main : W_X28_check_32 D e (pR D h 52 (CkOk D A E ρ sc (f + 1) i h (tTree A E (f + 1) wi i)) (CkEr A ρ sc i h (tTree A E (f + 1) wi i))) (ρ i) sc (if knA (ndS (nat_ A i)) (ndK (nat_ A i) == 1) (ndP (nat_ A i)).length = true then 1 else 0) h := by
    refine ⟨sC.1.1, ?_⟩
    rintro h2 q2
    have c2 : CkF sc (NM A ρ (ndL (nat_ A i)) (i + 1)) h h2 := by rw [q2]; exact CkF.wi
    have hI2 : JInv D h2 := by rw [q2]; exact hI.wfi scb scl
    have tr2 := tr.ck ri hI c2 sC.1.2
    have sC2 := sC.ck c2 tr.nd
    have w2 : jfi h2 52 sc = (if true = true then 1 else 0) := by rw [q2, jfi_wfi, if_pos ⟨rfl, rfl⟩]; rfl
    clear q2
    rw [hw]
    refine ⟨(ndP (nat_ A i)).length + 1, w_partsC (d := e) (Q := (pR D h 52 (CkOk D A E ρ sc (f + 1) i h (tTree A E (f + 1) wi i)) (CkEr A ρ sc i h (tTree A E (f + 1) wi i)))) (wi := true) (h0 := h2) (Lp := fun g x y => L_X28_check_46 D e (pR D h 52 (CkOk D A E ρ sc (f + 1) i h (tTree A E (f + 1) wi i)) (CkEr A ρ sc i h (tTree A E (f + 1) wi i))) g (ρ i) sc (if knA (ndS (nat_ A i)) (ndK (nat_ A i) == 1) (ndP (nat_ A i)).length = true then 1 else 0) (if wi = true then 1 else 0) x y) (n := n) hA ri IH hi il hb (by omega) w2 len (fun h' t' => (t' i il).2.2.2.2.2.2.2.1 o4) (fun g x h' z => ⟨z.1, z.2.1, z.2.2⟩) ?_ ?_ ((ndP (nat_ A i)).length + 1) 0 [] h2 (by omega) (by omega) hI2 rfl (PtK.nil tr2 sC2)⟩
    · rintro h1 ts hI1 em P
      have tl := P.2.2.2.2.1
      rw [em, ok_bind, tl] at eqT
      refine ⟨sC.1.1, by cases wi; exact jbo0; exact jbo1, ?_⟩
      rintro h5 q5
      have c15 : CkF sc (NM A ρ (ndL (nat_ A i)) (i + 1)) h1 h5 := by rw [q5]; exact CkF.wi
      have cf : CkF sc (NM A ρ (ndL (nat_ A i)) (i + 1)) h h5 := (c2.tr (P.1.mono fun z hz => hz.mono (Nat.le_refl _) (by omega))).tr c15
      have w5 : jfi h5 52 sc = jfi h 52 sc := by rw [q5, jfi_wfi, if_pos ⟨rfl, rfl⟩, hw]
      have tr5 := P.2.2.1.ck ri hI1 c15 P.2.2.2.1.1.2
      have sC5 := P.2.2.2.1.ck c15 P.2.2.1.nd
      have T : PtT D h5 ρ (ρ i) (ndP (nat_ A i)) ts := by rw [q5]; exact (P.ptT hA il o4).w52
      have pl5 : PlT A E h5 ρ (f + 1) i := PlT.ck hA ri (a := 0) (b := 0) (by rw [q5]; exact CkF.wi) (f + 1) i il (Or.inl (Nat.zero_le _)) (P.pl (by omega))
      have st : StR h5 (jfr h5 113 (ρ i)) (ndS (nat_ A i)) := (((tr5 i il).2.2.2.2.2.2.1 o).1 nk).1
      have hI5 : JInv D h5 := by rw [q5]; exact hI1.wfi (hI1.2.1 _ (by rw [P.2.2.2.1.1.2]; decide)) (hI1.lt (by rw [P.2.2.2.1.1.2]; decide))
      clear q5
      have en : ∀ t, tTree A E (f + 1) wi i = .ok t → TyOk t → (pR D h 52 (CkOk D A E ρ sc (f + 1) i h (tTree A E (f + 1) wi i)) (CkEr A ρ sc i h (tTree A E (f + 1) wi i))) (.inl (some (vR 52 (tyc D t)))) (wfr h5 109 (ρ i) (tyc D t)) := fun t t1 t3 =>
        endR fun _ _ _ => ⟨t, t1, rfl, t3, by rw [jfr_wfr, if_pos ⟨rfl, rfl⟩], cf.tr (CkF.ty mi), w5, PlT.ty9 _ _ pl5⟩
      have er : ∀ c y h3, tTree A E (f + 1) wi i = .error c → Flt h5 h3 y c → (pR D h 52 (CkOk D A E ρ sc (f + 1) i h (tTree A E (f + 1) wi i)) (CkEr A ρ sc i h (tTree A E (f + 1) wi i))) (.inr y) h3 := fun c y h3 eN x3 =>
        endX fun _ _ => ⟨c, h5, eN, cf, x3⟩
      have fin : ∀ t, tTree A E (f + 1) wi i = .ok t → TyOk t → W_X28_check_172 D e (pR D h 52 (CkOk D A E ρ sc (f + 1) i h (tTree A E (f + 1) wi i)) (CkEr A ρ sc i h (tTree A E (f + 1) wi i))) (ρ i) (ρ i) (tyc D t) h5 := fun t t1 t3 => by
        refine ⟨T.2.1, ?_⟩
        rintro h6 rfl
        refine ⟨T.2.1, ?_⟩
        rw [show jfr (wfr h5 109 (ρ i) (tyc D t)) 109 (ρ i) = tyc D t by rw [jfr_wfr, if_pos ⟨rfl, rfl⟩]]
        exact en t t1 t3
      by_cases kn : knA (ndS (nat_ A i)) (ndK (nat_ A i) == 1) (ndP (nat_ A i)).length = true
      · rw [if_pos kn] at eqT ⊢
        refine ⟨fun _ => ?_, fun z => absurd z (by decide)⟩
        have bad : (E.2.2 && !wi) = false → W_X28_check_99 D e (pR D h 52 (CkOk D A E ρ sc (f + 1) i h (tTree A E (f + 1) wi i)) (CkEr A ρ sc i h (tTree A E (f + 1) wi i))) h5 := fun z => by
          unfold agS at eqT
          rw [if_neg (by rw [z]; simp)] at eqT
          refine useR0 (w_fault (w := "42803") ⟨by decide, by decide +kernel⟩ (by omega)) ?_
          rintro y h6 _ _ ⟨y1, y2⟩
          exact ⟨y1, er _ y h6 eqT y2⟩
        rw [sC5.2.2.2]
        cases hE : E.2.2 with
        | false =>
          exact ⟨fun _ => bad (by rw [hE]; rfl), fun z => absurd rfl z⟩
        | true =>
          refine ⟨fun z => absurd z (by decide), fun _ => ?_⟩
          by_cases hwi : wi = true
          · rw [if_pos hwi]
            exact ⟨fun z => absurd z (by decide), fun _ => bad (by rw [hwi]; simp)⟩
          · rw [if_neg hwi]
            refine ⟨fun _ => ?_, fun z => absurd rfl z⟩
            have hgo : (E.2.2 && !wi) = true := by rw [hE, Bool.eq_false_iff.mpr hwi]; rfl
            unfold agS at eqT
            rw [if_pos hgo] at eqT
            -- the first part, if it is not COUNT(*)
            have first : ndS (nat_ A i) ≠ sStr "count" → ∃ t p0, ts = [t] ∧ TyOk t ∧ jar h5 (jfr h5 111 (ρ i)) 0 = ρ p0 ∧ ρ p0 ≠ 0 ∧ jfr h5 109 (ρ p0) = tyc D t ∧ jin (0 : Int32) (jln h5 (jfr h5 111 (ρ i))) := fun nc => by
              unfold knA at kn
              split at kn
              · exact absurd (by simpa using kn) nc
              · rw [← tl] at kn
                obtain ⟨t, ht⟩ := len1 kn
                subst ht
                obtain ⟨p0, a1, a2, a3, a4, a5⟩ := T.at (k := 0) (by simp)
                have ln := T.1.2.2.2.1
                have ln2 := T.1.2.2.2.2.1
                rw [← tl] at ln
                exact ⟨t, p0, rfl, a5, a2, a3, a4, jin_nI (n := 0) (by simp at ln; omega) (by omega)⟩
            have i0 : ixn (0 : Int32) = 0 := ixn_nI (n := 0) (by decide)
            have s132 : (ndS (nat_ A i) = sStr "sum" → tFits (ts.headD 0) 20 = .ok ()) → W_X28_check_132 D e (pR D h 52 (CkOk D A E ρ sc (f + 1) i h (tTree A E (f + 1) wi i)) (CkEr A ρ sc i h (tTree A E (f + 1) wi i))) (ρ i) h5 := fun hsum => by
              refine ⟨T.2.1, st.1, w_eq (w := "count") st ⟨by decide, by decide +kernel⟩ (by omega) (fun z => ?_) fun n1 => ⟨st.1, w_eq' (w := "sum") st ⟨by decide, by decide +kernel⟩ (by omega) (fun z => ?_) fun n2 => ?_⟩⟩
              · rw [if_pos z] at eqT
                exact fin 20 eqT ty20
              · rw [if_neg n1, if_pos z, hsum z] at eqT
                exact fin 20 eqT ty20
              · rw [if_neg n1, if_neg n2] at eqT
                obtain ⟨t, p0, b1, b2, b3, b4, b5, b6⟩ := first n1
                rw [i0, b3, b5]
                refine ⟨T.1.1, b6, b4, fin t (by rw [eqT, b1]; rfl) b2⟩
            refine ⟨st.1, w_eq' (w := "sum") st ⟨by decide, by decide +kernel⟩ (by omega) (fun z => ?_) fun n2 => s132 fun y => absurd y n2⟩
            have n1 : ndS (nat_ A i) ≠ sStr "count" := nmNe z "count" (by decide +kernel)
            obtain ⟨t, p0, b1, b2, b3, b4, b5, b6⟩ := first n1
            rw [i0, b3, b5]
            refine ⟨T.1.1, b6, b4, useV (w_tneed b2 ty20 (by omega)) ?_ ?_⟩
            · rintro h6 hI6 _ ⟨f6, rfl⟩
              exact s132 fun _ => by rw [b1]; exact f6
            · rintro y h6 hI6 _ ⟨f6, x6⟩
              rw [if_neg n1, if_pos z, b1] at eqT
              have eqT : tTree A E (f + 1) wi i = (tFits t 20 >>= fun _ => Except.ok 20) := eqT
              rw [f6] at eqT
              exact er _ y h6 eqT x6
      · rw [if_neg kn] at eqT ⊢
        refine ⟨fun z => absurd rfl z, fun _ => useR0 (w_fault (w := "42883") ⟨by decide, by decide +kernel⟩ (by omega)) ?_⟩
        rintro y h6 _ _ ⟨y1, y2⟩
        exact ⟨y1, er _ y h6 eqT y2⟩
    · rintro y h1 c hm hI1 em c1 x2
      exact endX fun _ _ => ⟨c, hm, by rw [eqT, em]; rfl, c2.tr c1, x2⟩
  refine t_X28_check ⟨nr.1, ?_⟩
  rw [f3.2.1, pts.2.2.1]
  rcases k01 with y | y
  · have b : (ndK (nat_ A i) == 1) = false := by rw [y]; rfl
    have ek : knA (ndS (nat_ A i)) (ndK (nat_ A i) == 1) (ndP (nat_ A i)).length = ((ndP (nat_ A i)).length == 1) := by rw [b]; rfl
    rw [ek] at main
    refine ⟨fun _ => ⟨fun z => ?_, fun z => ?_⟩, fun z => absurd (by rw [y]; rfl) z⟩
    · rw [kn_no (by simpa using fun w => z (by rw [w]; rfl))] at main
      exact main
    · have := (nI_eq (b := 1) (by omega) (by omega)).mp z
      rw [kn_yes (by simpa using this)] at main
      exact main
  · have b : (ndK (nat_ A i) == 1) = true := by rw [y.1]; rfl
    have ek : knA (ndS (nat_ A i)) (ndK (nat_ A i) == 1) (ndP (nat_ A i)).length = (ndS (nat_ A i) == sStr "count") := by rw [b]; rfl
    rw [ek] at main
    refine ⟨fun z => absurd z (by rw [y.1]; decide), fun _ => ⟨f3.1.1, ?_⟩⟩
    have kc : StR h (jcs D 114) (sStr "count") := by
      have := k_const hI (j := 114) (by decide)
      rwa [show jcon 114 = sStr "count" by decide +kernel] at this
    refine JW.up (n := 2) (fun z => useI0 (k_equals (d := z) f3.1 kc) ?_) (by omega)
    rintro v h1 _ _ ⟨rfl, he⟩
    have he := he.symm
    subst he
    by_cases c : ndS (nat_ A i) = sStr "count"
    · rw [if_pos c]
      rw [kn_yes (by simpa using c)] at main
      exact main
    · rw [if_neg c]
      rw [kn_no (by simpa using c)] at main
      exact main
/-- the contract of check -/
theorem w_check (hA : NOK A) (ri : RI ρ A.length) (hn : (E.1.map (·.1)).Nodup) : ∀ f, CKX D A E ρ sc f
  | 0 => fun i wi h d n hi => by omega
  | f + 1 => fun i wi h d n hi il hb hd tr sC hw => by
    have IH := w_check hA ri hn f
    obtain ⟨m, rfl⟩ : ∃ m, n = m + 1 := by
      cases n with
      | zero => exact hb.elim
      | succ m => exact ⟨m, rfl⟩
    have nr := tr i il
    have k2 := nr.2.1
    have sh := (hA i il).2.2.1
    have os : ndO (nat_ A i) ≤ 14 := by
      rcases sh with h | h | h | h | h | h | h | h | h | h | h | h | h
      all_goals (have := h.1; omega)
    have ks : ndO (nat_ A i) = 3 → ndK (nat_ A i) = 0 ∨ ndK (nat_ A i) = 1 := fun o => by
      rcases sh with h | h | h | h | h | h | h | h | h | h | h | h | h
      all_goals first | exact h.2.2.imp id And.left | (exfalso; have := h.1; omega)
    have nkO : ∀ o, ndO (nat_ A i) = o → nkd (nat_ A i) = (match o with | 0 => 25 | 1 => 20 | 2 => 24 | 3 => if ndK (nat_ A i) = 1 ∨ tGather (ndS (nat_ A i)) = true then 22 else 23 | 4 => 21 | 5 => 29 | 7 => 29 | 8 => 28 | 12 => 26 | 13 => 26 | _ => 27) := fun o z => by
      unfold nkd
      rw [z]
      rfl
    have go : ∀ z, nkd (nat_ A i) = z → jkd h (ρ i) = z := fun z y => k2.trans y
    rcases (show ndO (nat_ A i) = 0 ∨ ndO (nat_ A i) = 1 ∨ ndO (nat_ A i) = 2 ∨ ndO (nat_ A i) = 3 ∨ ndO (nat_ A i) = 4 ∨ (ndO (nat_ A i) = 5 ∨ ndO (nat_ A i) = 7) ∨ ndO (nat_ A i) = 8 ∨ (ndO (nat_ A i) = 12 ∨ ndO (nat_ A i) = 13) ∨ (ndO (nat_ A i) = 6 ∨ ndO (nat_ A i) = 9 ∨ ndO (nat_ A i) = 10 ∨ ndO (nat_ A i) = 11 ∨ ndO (nat_ A i) = 14) by omega) with o | o | o | o | o | o | o | o | o
    · have kd := go 25 (nkO _ o)
      refine ⟨fun z => ?_, fun z => ?_, fun z => ?_, fun z => ?_, fun z => ?_, fun _ => ck_lit hA il o tr (by omega), fun z => ?_, fun z => ?_, fun z => ?_, fun z => ?_⟩
      all_goals (rw [kd] at z; cases z)
    · have kd := go 20 (nkO _ o)
      refine ⟨fun _ => ck_par hA il o tr sC (by omega), fun z => ?_, fun z => ?_, fun z => ?_, fun z => ?_, fun z => ?_, fun z => ?_, fun z => ?_, fun z => ?_, fun z => ?_⟩
      all_goals (rw [kd] at z; cases z)
    · have kd := go 24 (nkO _ o)
      refine ⟨fun z => ?_, fun z => ?_, fun z => ?_, fun z => ?_, fun _ => ck_col hA il o tr sC hn (by omega), fun z => ?_, fun z => ?_, fun z => ?_, fun z => ?_, fun z => ?_⟩
      all_goals (rw [kd] at z; cases z)
    · by_cases c : ndK (nat_ A i) = 1 ∨ tGather (ndS (nat_ A i)) = true
      · have kd := go 22 ((nkO _ o).trans (if_pos c))
        refine ⟨fun z => ?_, fun z => ?_, fun _ => ck_agg hA ri IH hi il hb o c tr sC hw (by omega), fun z => ?_, fun z => ?_, fun z => ?_, fun z => ?_, fun z => ?_, fun z => ?_, fun z => ?_⟩
        all_goals (rw [kd] at z; cases z)
      · have kd := go 23 ((nkO _ o).trans (if_neg c))
        refine ⟨fun z => ?_, fun z => ?_, fun z => ?_, fun _ => ck_call hA ri IH hi il hb o ?_ ?_ tr sC hw (by omega), fun z => ?_, fun z => ?_, fun z => ?_, fun z => ?_, fun z => ?_, fun z => ?_⟩
        all_goals first | (rw [kd] at z; cases z) | skip
        · rcases ks o with y | y
          · exact y
          · exact absurd (Or.inl y) c
        · exact Bool.eq_false_iff.mpr fun y => c (Or.inr y)
    · have kd := go 21 (nkO _ o)
      refine ⟨fun z => ?_, fun _ => ck_case hA ri IH hi il hb o tr sC hw (by omega), fun z => ?_, fun z => ?_, fun z => ?_, fun z => ?_, fun z => ?_, fun z => ?_, fun z => ?_, fun z => ?_⟩
      all_goals (rw [kd] at z; cases z)
    · have kd := go 29 (by rcases o with y | y <;> exact nkO _ y)
      refine ⟨fun z => ?_, fun z => ?_, fun z => ?_, fun z => ?_, fun z => ?_, fun z => ?_, fun z => ?_, fun z => ?_, fun z => ?_, fun _ => ck_with hA ri IH hi il hb o tr sC hw (by omega)⟩
      all_goals (rw [kd] at z; cases z)
    · have kd := go 28 (nkO _ o)
      refine ⟨fun z => ?_, fun z => ?_, fun z => ?_, fun z => ?_, fun z => ?_, fun z => ?_, fun z => ?_, fun z => ?_, fun _ => ck_miss hA ri IH hi il hb o tr sC hw (by omega), fun z => ?_⟩
      all_goals (rw [kd] at z; cases z)
    · have kd := go 26 (by rcases o with y | y <;> exact nkO _ y)
      refine ⟨fun z => ?_, fun z => ?_, fun z => ?_, fun z => ?_, fun z => ?_, fun z => ?_, fun _ => ck_turn hA ri IH hi il hb o tr sC hw (by omega), fun z => ?_, fun z => ?_, fun z => ?_⟩
      all_goals (rw [kd] at z; cases z)
    · have kd := go 27 (by rcases o with y | y | y | y | y <;> exact nkO _ y)
      refine ⟨fun z => ?_, fun z => ?_, fun z => ?_, fun z => ?_, fun z => ?_, fun z => ?_, fun z => ?_, fun _ => ck_pair hA ri IH hi il hb o tr sC hw (by omega), fun z => ?_, fun z => ?_⟩
      all_goals (rw [kd] at z; cases z)
end
