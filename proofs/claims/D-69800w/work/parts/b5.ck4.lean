/-! the component: literals, parameters, columns are checked -/
theorem Shp.nil {n : Nod} (hs : Shp n) (o : ndO n = 0 ∨ ndO n = 1 ∨ ndO n = 2) : ndP n = [] := by
  rcases hs with h | h | h | h | h | h | h | h | h | h | h | h | h
  · exact h.2.2.1
  · exact h.2.1
  · exact h.2.2
  all_goals (exfalso; have := h.1; omega)
theorem Shp.lit {n : Nod} (hs : Shp n) (o : ndO n = 0) : LitV (ndV n) := by
  rcases hs with h | h | h | h | h | h | h | h | h | h | h | h | h
  · exact h.2.2.2
  all_goals (exfalso; have := h.1; omega)
theorem Shp.par {n : Nod} (hs : Shp n) (o : ndO n = 1) : ndK n < 8 := by
  rcases hs with h | h | h | h | h | h | h | h | h | h | h | h | h
  · exfalso; have := h.1; omega
  · exact h.2.2
  all_goals (exfalso; have := h.1; omega)
theorem LitV.ty {v : Val} (k : LitV v) : TyOk v.1 := by
  rcases k with rfl | ⟨b, rfl⟩ | ⟨n, rfl, _⟩ | ⟨s, rfl, _⟩
  · exact Or.inl rfl
  · exact Or.inr (Or.inl rfl)
  · exact Or.inr (Or.inr (Or.inl rfl))
  · exact Or.inr (Or.inr (Or.inr rfl))
section
variable {D : JD} {h h' h'' hm h0 : JH} {ρ : Nat → Nat} {A : List Nod} {E : TEnv} {d sc r x i n f : Nat} {M : Nat → Prop} {wi : Bool}
theorem tTree_nil (e : ndP (nat_ A i) = []) : tTree A E (f + 1) wi i = tNode E wi (nat_ A i) [] := by rw [tTree_eq, e]; rfl
theorem PlT.nil (e : ndP (nat_ A i) = []) (o : ndO (nat_ A i) ≠ 2) : PlT A E h ρ (f + 1) i := ⟨fun z => absurd z o, fun p hp => by rw [e] at hp; cases hp⟩
theorem ck_lit (hA : NOK A) (il : i < A.length) (o : ndO (nat_ A i) = 0) (tr : TreeR D h A ρ) (hd : 1 ≤ d) :
    cX31_check D d (ρ i) sc h (pR D h 52 (CkOk D A E ρ sc (f + 1) i h (tTree A E (f + 1) wi i)) (CkEr A ρ sc i h (tTree A E (f + 1) wi i))) := by
  obtain ⟨e, rfl, he⟩ := dsucc hd
  have nr := tr i il
  have sh := (hA i il).2.2.1
  have f0 := nr.2.2.2.1 o
  have np := sh.nil (Or.inl o)
  refine t_X31_check ⟨nr.1, endR fun _ _ _ => ⟨(ndV (nat_ A i)).1, ?_, f0.1, (sh.lit o).ty, rfl, CkF.rf, rfl, PlT.nil np (by omega)⟩⟩
  rw [tTree_nil np]
  unfold tNode
  rw [o]
  rfl
theorem nmI {lo : Nat} (il : i < A.length) (hl : lo ≤ i) (o : ndO (nat_ A i) ≠ 0) (o8 : ndO (nat_ A i) ≠ 8) : NM A ρ lo (i + 1) (ρ i) := ⟨i, hl, Nat.lt_succ_self _, il, rfl, o, o8⟩
theorem ck_par (hA : NOK A) (il : i < A.length) (o : ndO (nat_ A i) = 1) (tr : TreeR D h A ρ) (sC : ScC D h sc E) (hd : 8 ≤ d) :
    cX25_check D d (ρ i) sc h (pR D h 52 (CkOk D A E ρ sc (f + 1) i h (tTree A E (f + 1) wi i)) (CkEr A ρ sc i h (tTree A E (f + 1) wi i))) := by
  obtain ⟨e, rfl, he⟩ := dsucc hd
  have nr := tr i il
  have sh := (hA i il).2.2.1
  have f1 := nr.2.2.2.2.1 o
  have np := sh.nil (Or.inr (Or.inl o))
  have k8 := sh.par o
  obtain ⟨⟨s1, s2⟩, _, ⟨s3, s4, s5, s6⟩, _⟩ := sC
  have eqT : tTree A E (f + 1) wi i = (match E.2.1[ndK (nat_ A i)]? with
    | some t => .ok t
    | none => xErr "42P02") := by
    rw [tTree_nil np]
    unfold tNode
    rw [o]
    rfl
  refine t_X25_check ⟨nr.1, s1, s3, ?_⟩
  rw [f1, s4]
  refine ⟨fun z => ?_, fun z => ?_⟩
  · rw [nI_leI (by omega) (by omega)] at z
    have kl : ndK (nat_ A i) < E.2.1.length := by omega
    have ek : E.2.1[ndK (nat_ A i)]? = some E.2.1[ndK (nat_ A i)] := List.getElem?_eq_getElem kl
    have sk := s6 _ _ ek
    have e1 : nI (ndK (nat_ A i) + 1) - 1 = nI (ndK (nat_ A i)) := by rw [← nI_1, Int32.add_sub_cancel]
    rw [e1, ixn_nI (by omega), sk.1]
    refine ⟨jin_nI (by omega) (by omega), ?_⟩
    rintro h1 rfl
    rw [show jfr (wfr h 109 (ρ i) (tyc D E.2.1[ndK (nat_ A i)])) 109 (ρ i) = tyc D E.2.1[ndK (nat_ A i)] by rw [jfr_wfr, if_pos ⟨rfl, rfl⟩]]
    refine endR fun _ _ _ => ⟨E.2.1[ndK (nat_ A i)], by rw [eqT, ek], rfl, sk.2, by rw [jfr_wfr, if_pos ⟨rfl, rfl⟩], CkF.ty (nmI il (hA i il).1 (by omega) (by omega)), rfl, PlT.nil np (by omega)⟩
  · rw [nI_leI (by omega) (by omega)] at z
    refine useR0 (w_fault (w := "42P02") ⟨by decide, by decide +kernel⟩ (by omega)) ?_
    rintro y h1 _ _ ⟨y1, y2⟩
    refine ⟨y1, endX fun _ _ => ⟨sStr "42P02", h, ?_, CkF.rf, y2⟩⟩
    rw [eqT, List.getElem?_eq_none (by omega)]; rfl
/-! columns -/
theorem ck_colL {Q : JO → JH → Prop} {s : Str} {of : Option Str} {X : Ex (Nat × Nat)} (il : i < A.length) (hM : M (ρ i)) (hMd : MNd h0 M) (hI0 : JInv D h0) (nr0 : StR h0 (jfr h0 118 (ρ i)) s ∧ OStR h0 (jfr h0 117 (ρ i)) of) (r0 : ρ i ≠ 0) (sC0 : ScC D h0 sc E) (hd : 11 ≤ d)
    (hQ : ∀ q t v h', X = .ok q → E.1[q.1]? = some t → t.2.2.1[q.2]? = some v → TyOk v.2.1 → CkF sc M h0 h' → jfi h' 52 sc = jfi h0 52 sc → jfi h' 119 (ρ i) = nI q.1 → jfi h' 120 (ρ i) = nI q.2 → Q (.inl (some (vR 52 (tyc D v.2.1)))) (wfr h' 109 (ρ i) (tyc D v.2.1)))
    (hE : ∀ y h' c hm, X = .error c → CkF sc M h0 hm → Flt hm h' y c → Q (.inr y) h') :
    ∀ g k acc h, E.1.length < g + k → k ≤ E.1.length → CkF sc M h0 h → jfi h 52 sc = jfi h0 52 sc → Acc h (ρ i) E s acc → clk of s (E.1.drop k) k acc = X → L_X30_check_7 D d Q g (ρ i) sc (nI k) h
  | 0, k, acc, h, h1, h2, _, _, _, _ => by exfalso; omega
  | g + 1, k, acc, h, h1, h2, c, hw, ac, hX => by
    have sC : ScC D h sc E := sC0.ck c hMd
    have fr : ∀ F q, F ≠ 109 → jfr h F q = jfr h0 F q := fun F q hF => c.2.2.2.2.1 F q fun z => absurd z hF
    have st : ∀ q w, StR h0 q w → StR h q w := fun q w z => z.ck c hMd sC0.1.2
    have nm : StR h (jfr h 118 (ρ i)) s := by rw [fr _ _ (by decide)]; exact st _ _ nr0.1
    have nf : OStR h (jfr h 117 (ρ i)) of := by
      rw [fr _ _ (by decide)]
      have := nr0.2
      revert this
      cases of with
      | none => exact fun z => z
      | some w => exact fun z => st _ _ z
    obtain ⟨⟨s1, s2⟩, ⟨s3, s4, s5, s6, s7⟩, s8⟩ := sC
    refine ⟨s1, fun z => ?_, fun z => ?_⟩
    · rw [s5, nI_leI (by omega) (by omega)] at z
      rw [List.drop_eq_nil_of_le z] at hX
      refine ⟨r0, ?_⟩
      cases acc with
      | none =>
        have ac : jfi h 119 (ρ i) = -1 := ac
        rw [ac]
        refine ⟨fun y => absurd y (by decide), fun _ => ⟨fun y => ?_, fun y => ?_⟩⟩
        · have eo : of = none := by
            cases of with
            | none => rfl
            | some w => exact absurd y nf.1
          rw [eo] at hX
          refine useR0 (w_fault (w := "42703") ⟨by decide, by decide +kernel⟩ (by omega)) ?_
          rintro y1 h1 _ _ ⟨z1, z2⟩
          exact ⟨z1, hE y1 h1 _ h hX.symm c z2⟩
        · have eo : of.isSome = true := by
            cases of with
            | none => exact absurd nf y
            | some w => rfl
          unfold clk at hX
          rw [if_pos eo] at hX
          refine useR0 (w_fault (w := "42P01") ⟨by decide, by decide +kernel⟩ (by omega)) ?_
          rintro y1 h1 _ _ ⟨z1, z2⟩
          exact ⟨z1, hE y1 h1 _ h hX.symm c z2⟩
      | some q =>
        obtain ⟨a1, a2, t, a3, a4⟩ := ac
        have ql : q.1 < E.1.length := (List.getElem?_eq_some_iff.mp a3).1
        have sr := s7 q.1 t a3
        have tc := sr.2.2.2
        obtain ⟨t1, t2, t3, t4, t5, t6, t7⟩ := tc
        have cl := tColOf_lt a4
        have ev : t.2.2.1[q.2]? = some t.2.2.1[q.2] := List.getElem?_eq_getElem cl
        have cv := t7 _ _ ev
        rw [a1, a2]
        refine ⟨fun _ => ?_, fun y => absurd (le_nI (by omega)) y⟩
        rw [ixn_nI (by omega), ixn_nI (by omega)]
        refine ⟨s3, by rw [s4]; exact jin_nI (by omega) (by omega), sr.1, t1, t3, jin_nI (by omega) (by omega), cv.1.1, ?_⟩
        rw [cv.1.2.2.2.1]
        rintro h1 rfl
        rw [show jfr (wfr h 109 (ρ i) (tyc D (t.2.2.1[q.2]).2.1)) 109 (ρ i) = tyc D (t.2.2.1[q.2]).2.1 by rw [jfr_wfr, if_pos ⟨rfl, rfl⟩]]
        exact hQ q t _ h hX.symm a3 ev cv.2 c hw a1 a2
    · rw [s5, nI_leI (by omega) (by omega)] at z
      have kl : k < E.1.length := by omega
      have ek : E.1[k]? = some E.1[k] := List.getElem?_eq_getElem kl
      rw [List.drop_eq_getElem_cons kl] at hX
      generalize E.1[k] = t at ek hX
      have sr := s7 k t ek
      have go : ∀ acc' h', CkF sc M h0 h' → jfi h' 52 sc = jfi h0 52 sc → Acc h' (ρ i) E s acc' → clk of s (E.1.drop (k + 1)) (k + 1) acc' = X → W_X30_check_108 D d Q (L_X30_check_7 D d Q g) (ρ i) sc (nI k) h' := fun acc' h' c' hw' ac' hX' => by
        show L_X30_check_7 D d Q g (ρ i) sc (nI k + 1) h'
        rw [nI_1]
        exact ck_colL il hM hMd hI0 nr0 r0 sC0 hd hQ hE g (k + 1) acc' h' (by omega) (by omega) c' hw' ac' hX'
      have s44 : of.all (· == t.1) = true → W_X30_check_44 D d Q (L_X30_check_7 D d Q g) (ρ i) sc (nI k) h := fun ho => by
        unfold clk at hX
        rw [if_pos ho] at hX
        rw [W_X30_check_44, ixn_nI (by omega)]
        refine ⟨s1, s3, by rw [s4]; exact jin_nI (by omega) (by omega), sr.1, r0, sr.2.2.2.1, useI0 (w_tcol sr.2.2.2 nm (by omega)) ?_⟩
        rintro v h1 _ _ ⟨rfl, rfl⟩
        cases hc : tColOf t.2.2.1 s with
        | none =>
          rw [hc] at hX
          have ev : tcI t.2.2.1 s = -1 := by unfold tcI; rw [hc]
          rw [ev]
          refine ⟨fun y => absurd y (by decide), fun _ => ⟨fun y => ?_, fun y => ?_⟩⟩
          · have eo : of = none := by
              cases of with
              | none => rfl
              | some w => exact absurd y nf.1
            rw [eo] at hX
            exact ⟨fun y => absurd y (by decide), fun _ => go acc h1 c hw ac (by rw [eo]; exact hX)⟩
          · have eo : of.isSome = true := by
              cases of with
              | none => exact absurd nf y
              | some w => rfl
            dsimp only at hX
            rw [if_pos eo] at hX
            refine useR0 (w_fault (w := "42703") ⟨by decide, by decide +kernel⟩ (by omega)) ?_
            rintro y1 h2 _ _ ⟨z1, z2⟩
            exact ⟨z1, hE y1 h2 _ h1 hX.symm c z2⟩
        | some cc =>
          rw [hc] at hX
          have cl := tColOf_lt hc
          have c9 := sr.2.2.2.2.2.2.2.1
          have c10 := sr.2.2.2.2.2.2.2.2.1
          have ev : tcI t.2.2.1 s = nI cc := by unfold tcI; rw [hc]
          rw [ev]
          refine ⟨fun _ => ⟨fun _ => ⟨r0, ?_⟩, fun y => absurd (le_nI (by omega)) y⟩, fun y => absurd (le_nI (by omega)) y⟩
          cases acc with
          | none =>
            have ac : jfi h1 119 (ρ i) = -1 := ac
            rw [ac]
            refine ⟨fun _ => ?_, fun y => absurd (by decide) y⟩
            rintro h2 rfl h3 rfl
            refine go (some (k, cc)) _ ((c.tr (CkF.pl (Or.inl rfl) hM)).tr (CkF.pl (Or.inr rfl) hM)) ?_ ⟨?_, ?_, t, ek, hc⟩ hX
            · rw [jfi_wfi, if_neg fun y => absurd y.1 (by decide), jfi_wfi, if_neg fun y => absurd y.1 (by decide)]; exact hw
            · rw [jfi_wfi, if_neg fun y => absurd y.1 (by decide), jfi_wfi, if_pos ⟨rfl, rfl⟩]
            · rw [jfi_wfi, if_pos ⟨rfl, rfl⟩]
          | some q =>
            obtain ⟨a1, a2, t', a3, a4⟩ := ac
            have ql : q.1 < E.1.length := (List.getElem?_eq_some_iff.mp a3).1
            rw [a1]
            refine ⟨fun y => absurd y (lt_nI (by omega)), fun _ => useR0 (w_fault (w := "42702") ⟨by decide, by decide +kernel⟩ (by omega)) ?_⟩
            rintro y1 h2 _ _ ⟨z1, z2⟩
            exact ⟨z1, hE y1 h2 _ h1 hX.symm c z2⟩
      refine ⟨r0, fun y => ?_, fun y => ?_⟩
      · have eo : of = none := by
          cases of with
          | none => rfl
          | some w => exact absurd y nf.1
        exact s44 (by rw [eo]; rfl)
      · obtain ⟨w, eo⟩ : ∃ w, of = some w := by
          cases of with
          | none => exact absurd nf y
          | some w => exact ⟨w, rfl⟩
        have nf' : StR h (jfr h 117 (ρ i)) w := by rw [eo] at nf; exact nf
        rw [ixn_nI (by omega)]
        refine ⟨s3, by rw [s4]; exact jin_nI (by omega) (by omega), sr.1, sr.2.2.1.1, JW.up (n := 2) (fun b => useI0 (k_equals (d := b) sr.2.2.1 nf') ?_) (by omega)⟩
        rintro v h1 _ _ ⟨rfl, rfl⟩
        by_cases e : t.1 = w
        · rw [if_pos e]
          exact ⟨fun _ => s44 (by rw [eo]; show (w == t.1) = true; rw [e]; simp), fun b => absurd b (by decide)⟩
        · rw [if_neg e]
          refine ⟨fun b => absurd rfl b, fun _ => go acc h1 c hw ac ?_⟩
          unfold clk at hX
          rw [if_neg (by rw [eo]; show ¬ (w == t.1) = true; simpa using fun b : w = t.1 => e b.symm)] at hX
          exact hX
theorem ck_col (hA : NOK A) (il : i < A.length) (o : ndO (nat_ A i) = 2) (tr : TreeR D h A ρ) (sC : ScC D h sc E) (hn : (E.1.map (·.1)).Nodup) (hd : 12 ≤ d) :
    cX30_check D d (ρ i) sc h (pR D h 52 (CkOk D A E ρ sc (f + 1) i h (tTree A E (f + 1) wi i)) (CkEr A ρ sc i h (tTree A E (f + 1) wi i))) := by
  obtain ⟨e, rfl, he⟩ := dsucc hd
  have nr := tr i il
  have sh := (hA i il).2.2.1
  have f2 := nr.2.2.2.2.2.1 o
  have np := sh.nil (Or.inr (Or.inr o))
  have eqT : tTree A E (f + 1) wi i = (tColumn E (ndF (nat_ A i)) (ndS (nat_ A i)) >>= fun q => .ok (((E.1[q.1]?.map fun t => t.2.2.1[q.2]?.map fun (x : Col) => x.2.1).join).getD 0)) := by
    rw [tTree_nil np]
    unfold tNode
    rw [o]
    rfl
  rw [tColumn_eq E _ _ hn] at eqT
  refine JW.inv fun hI => t_X30_check ⟨nr.1, ?_⟩
  rintro h1 rfl
  have mi : NM A ρ (ndL (nat_ A i)) (i + 1) (ρ i) := nmI il (hA i il).1 (by omega) (by omega)
  refine ⟨E.1.length + 1, ck_colL (M := NM A ρ (ndL (nat_ A i)) (i + 1)) (X := clk (ndF (nat_ A i)) (ndS (nat_ A i)) E.1 0 none) il mi tr.nd hI f2 nr.1 sC (by omega) ?_ ?_ (E.1.length + 1) 0 none _ (by omega) (by omega) (CkF.pl (Or.inl rfl) mi) ?_ ?_ rfl⟩
  · rintro q t v h2 eX e1 e2 tv c2 w2 p1 p2
    refine endR fun _ _ _ => ⟨v.2.1, ?_, rfl, tv, by rw [jfr_wfr, if_pos ⟨rfl, rfl⟩], c2.tr (CkF.ty mi), w2, ⟨fun _ => ⟨q, ?_, p1, p2⟩, fun p hp => by rw [np] at hp; cases hp⟩⟩
    · rw [eqT, eX, ok_bind, e1]
      show Except.ok (((t.2.2.1[q.2]?.map fun (x : Col) => x.2.1)).getD 0) = _
      rw [e2]; rfl
    · rw [← tColumn_eq E _ _ hn] at eX
      unfold tColumn at eX
      cases hx : xMust ((ndF (nat_ A i)).isNone || E.1.any fun q => ndF (nat_ A i) == some q.1) "42P01" with
      | error c => rw [hx] at eX; cases eX
      | ok u =>
        rw [hx] at eX
        have eX : (match tFound E.1 (ndF (nat_ A i)) (ndS (nat_ A i)) with
          | [] => xErr "42703"
          | [q] => .ok q
          | _ => xErr "42702") = Except.ok q := eX
        revert eX
        cases tFound E.1 (ndF (nat_ A i)) (ndS (nat_ A i)) with
        | nil => intro z; cases z
        | cons a l =>
          cases l with
          | nil => intro z; cases z; rfl
          | cons b l => intro z; cases z
  · rintro y h2 c hm eX c1 c2
    exact endX fun _ _ => ⟨c, hm, by rw [eqT, eX]; rfl, c1, c2⟩
  · rw [jfi_wfi, if_neg fun y => absurd y.1 (by decide)]
  · show jfi (wfi h 119 (ρ i) (-1)) 119 (ρ i) = -1
    rw [jfi_wfi, if_pos ⟨rfl, rfl⟩]
end
