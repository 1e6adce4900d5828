/-! values have the types that were found: the theorem -/
section
variable {A : List Nod} {E Ec : TEnv} {pv : List Val} {grp : List TRow} {f i : Nat} {R : TRow}
theorem gStep_vt {s : Str} {q q' : Nat × Val} {v : Val} {t : Nat} (e : gStep s q v = .ok q') (hs : s = sStr "sum" → t = 20) (hq : VT t q.2) (hv : VT t v) : VT t q'.2 := by
  unfold gStep at e
  split at e
  · cases e; exact hq
  · split at e
    · rename_i h
      simp only [Bool.and_eq_true, beq_iff_eq] at h
      cases hx : xNum (q.2.2.1 + v.2.1) with
      | error c => rw [hx] at e; cases e
      | ok x =>
        rw [hx] at e
        cases e
        rw [hs h.1]
        exact (VT.xnum hx).1
    · split at e
      · cases e; exact hv
      · cases e; exact hq
theorem fold_vt {s : Str} {t p : Nat} (hs : s = sStr "sum" → t = 20) (hp : ∀ r ∈ grp, ∀ v, eTree A E pv grp f r p = .ok v → VT t v) : ∀ (l : List TRow) (q q' : Nat × Val), (∀ r ∈ l, r ∈ grp) → VT t q.2 → l.foldlM (agF A E pv grp f s p) q = .ok q' → VT t q'.2
  | [], q, q', _, hq, e => by cases e; exact hq
  | r :: l, q, q', hl, hq, e => by
    rw [List.foldlM_cons] at e
    obtain ⟨q1, e1, e⟩ := bnd e
    unfold agF at e1
    obtain ⟨v, e2, e1⟩ := bnd e1
    exact fold_vt hs hp l q1 q' (fun r' hr => hl r' (List.mem_cons_of_mem _ hr)) (gStep_vt e1 hs hq (hp r (hl r List.mem_cons_self) v e2)) e
theorem coF_vt {t : Nat} : ∀ (l : List Nat) (v v' : Val), (∀ p ∈ l, ∀ w, eTree A E pv grp f R p = .ok w → VT t w) → VT t v → l.foldlM (coF A E pv grp f R) v = .ok v' → VT t v'
  | [], v, v', _, hv, e => by cases e; exact hv
  | p :: l, v, v', hl, hv, e => by
    rw [List.foldlM_cons] at e
    obtain ⟨v1, e1, e⟩ := bnd e
    refine coF_vt l v1 v' (fun q hq => hl q (List.mem_cons_of_mem _ hq)) ?_ e
    unfold coF at e1
    split at e1
    · exact hl p List.mem_cons_self v1 e1
    · cases e1; exact hv
theorem fnV_vt {s : Str} {a b c v : Val} {ts : List Nat} {t : Nat} (e : fnV s a b c = .ok v) (hk : knC s ts.length = true) (hco : s ≠ sStr "coalesce") (ht : (if s = sStr "coalesce" ∨ s = sStr "nullif" then tOne ts else caS s ts) = .ok t) (ha : ∀ u, ts[0]? = some u → VT u a) (hl : 1 ≤ ts.length) : VT t v := by
  obtain ⟨t0, h0⟩ : ∃ t0, ts[0]? = some t0 := ⟨ts[0], List.getElem?_eq_getElem hl⟩
  have va := ha t0 h0
  by_cases c1 : s = sStr "nullif"
  · rw [if_pos (Or.inr c1)] at ht
    have sub := (one_sub ts 0 t ht).2 t0 (List.mem_of_getElem? h0)
    unfold fnV at e
    rw [if_pos (by simpa using c1)] at e
    cases e
    split
    · exact VT.null _
    · exact va.sub sub
  · have nb : ¬ (s = sStr "coalesce" ∨ s = sStr "nullif") := by
      rintro (z | z)
      · exact hco z
      · exact c1 z
    rw [if_neg nb] at ht
    unfold caS at ht
    obtain ⟨u1, f1, ht⟩ := bnd ht
    obtain ⟨u2, f2, ht⟩ := bnd ht
    have hd : ts.headD 0 = t0 := by
      match ts, h0 with
      | x :: l, h0 =>
        rw [List.getElem?_cons_zero] at h0
        cases h0; rfl
    rw [hd] at f1
    cases u1
    have sub := fits_sub f1 (by split <;> decide)
    unfold fnV at e
    have b1 : ¬ (s == sStr "nullif") = true := by simpa using c1
    rw [if_neg b1] at e
    by_cases hn : (a.1 == 0 || (b.1 == 0 || c.1 == 0)) = true
    · rw [if_pos hn] at e
      cases e; exact VT.null _
    · rw [if_neg hn] at e
      have an : a.1 ≠ 0 := fun z => hn (by rw [z]; rfl)
      by_cases c2 : s = sStr "abs"
      · rw [if_pos (by simpa using c2)] at e
        rw [if_pos (Or.inl c2)] at ht
        cases ht
        exact (VT.xnum e).1
      · have b2 : ¬ (s == sStr "abs") = true := by simpa using c2
        rw [if_neg b2] at e
        rw [if_neg c2] at sub
        obtain ⟨w, rfl, w1, w2⟩ := (va.sub sub).txt an
        by_cases c3 : s = sStr "length"
        · rw [if_pos (by simpa using c3)] at e
          rw [if_pos (Or.inr c3)] at ht
          cases ht
          exact (VT.xnum e).1
        · have b3 : ¬ (s == sStr "length") = true := by simpa using c3
          have nb2 : ¬ (s = sStr "abs" ∨ s = sStr "length") := by
            rintro (z | z)
            · exact c2 z
            · exact c3 z
          rw [if_neg b3] at e
          rw [if_neg nb2] at ht
          cases ht
          split at e
          · split at e
            · cases e
            · exact VT.xtxt e (piece_by w2)
          · exact VT.xtxt e (cased_by w2)
theorem caG_vt {t : Nat} : ∀ (l : List Nat) (o : Option Val), (∀ (j p : Nat), j % 2 = 1 → l[j]? = some p → ∀ w, eTree A E pv grp f R p = .ok w → VT t w) → caG A E pv grp f R l = .ok o → ∀ v, o = some v → VT t v
  | [], o, _, e, v, ho => by
    have e : Except.ok none = (Except.ok o : Ex (Option Val)) := e
    cases e; cases ho
  | [_], o, _, e, v, ho => by
    have e : Except.ok none = (Except.ok o : Ex (Option Val)) := e
    cases e; cases ho
  | a :: b :: l, o, hl, e, v, ho => by
    have e : (eTree A E pv grp f R a >>= fun v => if vTrue v = true then (eTree A E pv grp f R b).map some else caG A E pv grp f R l) = .ok o := e
    obtain ⟨x, e1, e⟩ := bnd e
    split at e
    · obtain ⟨y, e2, e3⟩ := mpd e
      subst e3
      cases ho
      exact hl 1 b rfl rfl v e2
    · exact caG_vt l o (fun j p hj hp => hl (j + 2) p (by omega) (by rw [List.getElem?_cons_succ, List.getElem?_cons_succ]; exact hp)) e v ho
theorem csL_sub : ∀ (ts : List Nat) (acc t : Nat), csL ts acc = .ok t → (acc = 0 ∨ acc = t) ∧ ∀ (j u : Nat), ts[j]? = some u → (j % 2 = 1 ∨ j + 1 = ts.length ∧ j % 2 = 0) → u = 0 ∨ u = t
  | [], acc, t, e => by
    have e : Except.ok acc = (Except.ok t : Ex Nat) := e
    cases e
    exact ⟨Or.inr rfl, fun j u h => by simp at h⟩
  | [b], acc, t, e => by
    have e : tSame acc b = .ok t := e
    obtain ⟨s1, s2⟩ := tSame_sub e
    refine ⟨s1, fun j u h _ => ?_⟩
    cases j with
    | zero => rw [List.getElem?_cons_zero] at h; cases h; exact s2
    | succ j => simp at h
  | a :: b :: l, acc, t, e => by
    have e : (tFits a 16 >>= fun _ => tSame acc b >>= fun x => csL l x) = .ok t := e
    obtain ⟨u1, f1, e⟩ := bnd e
    obtain ⟨x, f2, e⟩ := bnd e
    obtain ⟨i1, i2⟩ := csL_sub l x t e
    obtain ⟨s1, s2⟩ := tSame_sub f2
    have tr : ∀ u, u = 0 ∨ u = x → u = 0 ∨ u = t := fun u hu => by
      rcases hu with z | z
      · exact Or.inl z
      · rcases i1 with y | y
        · exact Or.inl (z.trans y)
        · exact Or.inr (z.trans y)
    refine ⟨tr _ s1, fun j u h hj => ?_⟩
    match j, h with
    | 0, h =>
      exfalso
      simp at hj
    | 1, h =>
      rw [List.getElem?_cons_succ, List.getElem?_cons_zero] at h
      cases h
      exact tr _ s2
    | j + 2, h =>
      rw [List.getElem?_cons_succ, List.getElem?_cons_succ] at h
      exact i2 j u h (by simp at hj; omega)
/-- the theorem -/
theorem snd_tree (hA : NOK A) (e1 : Ec.1 = E.1) (hpv : PvOk Ec pv) (hgr : ∀ r ∈ grp, RowOk Ec r) : ∀ f wi i R t v, i < A.length → RowOk Ec R → tTree A Ec f wi i = .ok t → eTree A E pv grp f R i = .ok v → VT t v
  | 0, wi, i, R, t, v, _, _, ht, he => by
    unfold tTree at ht
    unfold eTree at he
    cases he
    exact VT.null _
  | f + 1, wi, i, R, t, v, il, hR, ht, he => by
    rw [tTree_eq] at ht
    obtain ⟨ts, hm, ht⟩ := bnd ht
    have sh := (hA i il).2.2.1
    have tl := mapM_len hm
    have P : ∀ (k p : Nat) w R', RowOk Ec R' → (ndP (nat_ A i))[k]? = some p → eTree A E pv grp f R' p = .ok w → ∃ u, ts[k]? = some u ∧ VT u w := fun k p w R' hR' hp hw => by
      obtain ⟨u, u1, u2⟩ := mapM_get hm k p hp
      have til := (Til.lt (hA i il).2.1).2 p (List.mem_of_getElem? hp)
      exact ⟨u, u1, snd_tree hA e1 hpv hgr f _ p R' u w (by omega) hR' u2 hw⟩
    have os : ndO (nat_ A i) ≤ 14 := by
      rcases sh with h | h | h | h | h | h | h | h | h | h | h | h | h
      all_goals (have := h.1; omega)
    have p1 : ∀ p, ndP (nat_ A i) = [p] → ∀ k w, k = 0 → evK A E pv grp f R i k = .ok w → ∃ u, ts = [u] ∧ VT u w := fun p ep k w hk hw => by
      subst hk
      unfold evK at hw
      rw [ep] at hw
      obtain ⟨u, u1, u2⟩ := P 0 p w R hR (by rw [ep]; rfl) hw
      rw [ep] at tl
      match ts, tl, u1 with
      | [x], _, u1 =>
        rw [List.getElem?_cons_zero] at u1
        cases u1
        exact ⟨_, rfl, u2⟩
    have p2 : ∀ p q, ndP (nat_ A i) = [p, q] → ∃ u0 u1, ts = [u0, u1] ∧ (∀ w, evK A E pv grp f R i 0 = .ok w → VT u0 w) ∧ (∀ w, evK A E pv grp f R i 1 = .ok w → VT u1 w) := fun p q ep => by
      rw [ep] at tl
      match ts, tl with
      | [x, y], _ =>
        refine ⟨x, y, rfl, fun w hw => ?_, fun w hw => ?_⟩
        · unfold evK at hw
          rw [ep] at hw
          obtain ⟨u, u1, u2⟩ := P 0 p w R hR (by rw [ep]; rfl) hw
          rw [List.getElem?_cons_zero] at u1
          cases u1
          exact u2
        · unfold evK at hw
          rw [ep] at hw
          obtain ⟨u, u1, u2⟩ := P 1 q w R hR (by rw [ep]; rfl) hw
          rw [List.getElem?_cons_succ, List.getElem?_cons_zero] at u1
          cases u1
          exact u2
    unfold tNode at ht
    rcases (show ndO (nat_ A i) = 0 ∨ ndO (nat_ A i) = 1 ∨ ndO (nat_ A i) = 2 ∨ ndO (nat_ A i) = 3 ∨ ndO (nat_ A i) = 4 ∨ ndO (nat_ A i) = 5 ∨ ndO (nat_ A i) = 6 ∨ ndO (nat_ A i) = 7 ∨ ndO (nat_ A i) = 8 ∨ ndO (nat_ A i) = 9 ∨ ndO (nat_ A i) = 10 ∨ ndO (nat_ A i) = 11 ∨ ndO (nat_ A i) = 12 ∨ ndO (nat_ A i) = 13 ∨ ndO (nat_ A i) = 14 by omega) with o | o | o | o | o | o | o | o | o | o | o | o | o | o | o
    · rw [o] at ht
      rw [eT_0 o] at he
      cases he
      have ht : Except.ok (ndV (nat_ A i)).1 = (Except.ok t : Ex Nat) := ht
      cases ht
      exact ⟨(sh.lit o).vw, Or.inr rfl⟩
    · rw [o] at ht
      rw [eT_1 o] at he
      cases he
      have ht : (match Ec.2.1[ndK (nat_ A i)]? with
        | some t => .ok t
        | none => xErr "42P02") = (Except.ok t : Ex Nat) := ht
      cases hk : Ec.2.1[ndK (nat_ A i)]? with
      | none => rw [hk] at ht; cases ht
      | some t' =>
        rw [hk] at ht
        cases ht
        exact hpv _ _ hk
    · rw [o] at ht
      obtain ⟨q, c1, ht⟩ := bnd ht
      have fq := tColumn_one c1
      obtain ⟨tb, b1, b2⟩ := fnd_mem (q := q) (by rw [fq]; exact List.mem_singleton.mpr rfl)
      have cl := tColOf_lt b2
      have ec : tb.2.2.1[q.2]? = some tb.2.2.1[q.2] := List.getElem?_eq_getElem cl
      have ht : Except.ok (((Ec.1[q.1]?.map fun t => t.2.2.1[q.2]?.map fun (x : Col) => x.2.1).join).getD 0) = (Except.ok t : Ex Nat) := ht
      rw [b1] at ht
      have ht : Except.ok ((tb.2.2.1[q.2]?.map fun (x : Col) => x.2.1).getD 0) = (Except.ok t : Ex Nat) := ht
      rw [ec] at ht
      cases ht
      rw [eT_2 o, ← e1, fq] at he
      have he : Except.ok ((((R[q.1]?).join).map fun r => r.getD q.2 vNull).getD vNull) = (Except.ok v : Ex Val) := he
      cases he
      cases hr : (R[q.1]?).join with
      | none => exact VT.null _
      | some r => exact hR q.1 tb r b1 hr q.2 _ ec
    · rw [o] at ht
      have ht : tFun Ec wi (ndS (nat_ A i)) (ndK (nat_ A i) == 1) ts = .ok t := ht
      rw [eT_3 o] at he
      have k01 : ndK (nat_ A i) = 0 ∨ (ndK (nat_ A i) = 1 ∧ ndP (nat_ A i) = []) := by
        rcases sh with h | h | h | h | h | h | h | h | h | h | h | h | h
        all_goals first | exact h.2.2 | (exfalso; have := h.1; omega)
      by_cases hg : tGather (ndS (nat_ A i)) = true
      · rw [if_pos hg] at he
        rw [tFun_agg (Or.inr hg) (fun z => by
          have z : ndK (nat_ A i) = 1 := by simpa using z
          rcases k01 with y | y
          · omega
          · rw [y.2] at tl; exact List.length_eq_zero_iff.mp tl)] at ht
        split at ht
        · rename_i hk
          unfold agS at ht
          split at ht
          · split at he
            · rename_i h1
              have c0 : ndS (nat_ A i) = sStr "count" := by
                unfold knA at hk
                rw [if_pos h1] at hk
                simpa using hk
              rw [if_pos c0] at ht
              cases ht
              exact (VT.xnum he).1
            · rename_i h1
              have l1 : (ts.length == 1) = true := by
                unfold knA at hk
                rw [if_neg h1] at hk
                exact hk
              obtain ⟨u, rfl⟩ := len1 l1
              obtain ⟨q, q1, he⟩ := bnd he
              split at he
              · rename_i h2
                rw [if_pos (by simpa using h2)] at ht
                cases ht
                exact (VT.xnum he).1
              · rename_i h2
                have n1 : ndS (nat_ A i) ≠ sStr "count" := by simpa using h2
                rw [if_neg n1] at ht
                cases he
                have pl : (ndP (nat_ A i)).length = 1 := by rw [← tl]; rfl
                have ep : (ndP (nat_ A i))[0]? = some ((ndP (nat_ A i)).getD 0 0) := by
                  match hp : ndP (nat_ A i), pl with
                  | [p], _ => rfl
                have hv : ∀ r ∈ grp, ∀ w, eTree A E pv grp f r ((ndP (nat_ A i)).getD 0 0) = .ok w → VT u w := fun r hr w hw => by
                  obtain ⟨u', u1, u2⟩ := P 0 _ w r (hgr r hr) ep hw
                  rw [List.getElem?_cons_zero] at u1
                  cases u1
                  exact u2
                by_cases c2 : ndS (nat_ A i) = sStr "sum"
                · rw [if_pos c2] at ht
                  obtain ⟨x, f1, ht⟩ := bnd ht
                  cases ht
                  cases x
                  have sub := fits_sub f1 (by decide)
                  exact fold_vt (t := 20) (fun _ => rfl) (fun r hr w hw => (hv r hr w hw).sub sub) grp (0, vNull) q (fun r hr => hr) (VT.null _) q1
                · rw [if_neg c2] at ht
                  cases ht
                  exact fold_vt (t := u) (fun z => absurd z c2) hv grp (0, vNull) q (fun r hr => hr) (VT.null _) q1
          · cases ht
        · cases ht
      · rw [if_neg hg] at he
        have hg' : tGather (ndS (nat_ A i)) = false := Bool.eq_false_iff.mpr hg
        have k0 : (ndK (nat_ A i) == 1) = false := by
          apply Bool.eq_false_iff.mpr
          intro z
          rw [z] at ht
          rw [tFun_agg (Or.inl rfl) (fun _ => by
            have z : ndK (nat_ A i) = 1 := by simpa using z
            rcases k01 with y | y
            · omega
            · rw [y.2] at tl; exact List.length_eq_zero_iff.mp tl)] at ht
          split at ht
          · rename_i hk
            have hk : (ndS (nat_ A i) == sStr "count") = true := hk
            have : tGather (ndS (nat_ A i)) = true := by rw [show ndS (nat_ A i) = sStr "count" by simpa using hk]; decide +kernel
            exact hg this
          · cases ht
        rw [k0, tFun_call hg'] at ht
        split at ht
        · rename_i hk
          by_cases c1 : ndS (nat_ A i) = sStr "coalesce"
          · rw [if_pos (by simpa using c1)] at he
            rw [if_pos (Or.inl c1)] at ht
            refine coF_vt (t := t) _ _ _ (fun p hp w hw => ?_) (VT.null _) he
            obtain ⟨j, hj, rfl⟩ := List.mem_iff_getElem.mp hp
            obtain ⟨u, u1, u2⟩ := P j _ w R hR (List.getElem?_eq_getElem hj) hw
            exact u2.sub ((one_sub ts 0 t ht).2 u (List.mem_of_getElem? u1))
          · rw [if_neg (by simpa using c1)] at he
            obtain ⟨a, a1, he⟩ := bnd he
            obtain ⟨b, b1, he⟩ := bnd he
            obtain ⟨c, c2, he⟩ := bnd he
            have l1 : 1 ≤ ts.length := by
              unfold knC at hk
              rw [if_neg c1] at hk
              split at hk
              · simp at hk; omega
              · split at hk
                · simp at hk; omega
                · split at hk
                  · simp at hk; omega
                  · cases hk
            refine fnV_vt he hk c1 ht (fun u hu => ?_) l1
            have pl : 0 < (ndP (nat_ A i)).length := by omega
            obtain ⟨u', u1, u2⟩ := P 0 ((ndP (nat_ A i)).getD 0 0) a R hR (by
              match hp : ndP (nat_ A i), pl with
              | p :: l, _ => rfl) a1
            rw [hu] at u1
            cases u1
            exact u2
        · cases ht
    · rw [o] at ht
      have ht : tCase (ndK (nat_ A i)) ts = .ok t := ht
      obtain ⟨k1, w, w1, w2, w3⟩ : ndK (nat_ A i) ≤ 1 ∧ ∃ w, 1 ≤ w ∧ w ≤ 19 ∧ (ndP (nat_ A i)).length = 2 * w + ndK (nat_ A i) := by
        rcases sh with h | h | h | h | h | h | h | h | h | h | h | h | h
        all_goals first | exact h.2 | (exfalso; have := h.1; omega)
      rw [tCase_eq k1 (by rw [tl]; exact w3)] at ht
      have sub := (csL_sub ts 0 t ht).2
      rw [eT_4 o] at he
      obtain ⟨r, r1, he⟩ := bnd he
      have hv := caG_vt (t := t) _ r (fun j p hj hp x hx => by
        have jl : j < (ndP (nat_ A i)).length - ndK (nat_ A i) := by
          have := (List.getElem?_eq_some_iff.mp hp).1
          rw [List.length_take] at this
          omega
        rw [List.getElem?_take, if_pos jl] at hp
        obtain ⟨u, u1, u2⟩ := P j p x R hR hp hx
        exact u2.sub (sub j u u1 (Or.inl hj))) r1
      cases r with
      | some x => cases he; exact hv _ rfl
      | none =>
        have he : (if (ndK (nat_ A i) == 1) = true then evK A E pv grp f R i ((ndP (nat_ A i)).length - ndK (nat_ A i)) else .ok vNull) = .ok v := he
        split at he
        · rename_i hk
          have hk : ndK (nat_ A i) = 1 := by simpa using hk
          have jl : (ndP (nat_ A i)).length - ndK (nat_ A i) < (ndP (nat_ A i)).length := by omega
          unfold evK at he
          rw [List.getD_eq_getElem?_getD, List.getElem?_eq_getElem jl] at he
          obtain ⟨u, u1, u2⟩ := P _ _ v R hR (List.getElem?_eq_getElem jl) he
          exact u2.sub (sub _ u u1 (Or.inr ⟨by omega, by omega⟩))
        · cases he; exact VT.null _
    · rw [o] at ht
      obtain ⟨x, x1, ht⟩ := mpd ht
      subst ht
      rw [eT_5 o] at he
      obtain ⟨x, x1, he⟩ := bnd he
      obtain ⟨q, q1, he⟩ := bnd he
      cases he
      split
      · exact VT.bool _
      · split
        · exact VT.null _
        · exact VT.bool _
    · rw [o] at ht
      obtain ⟨x, x1, ht⟩ := mpd ht
      subst ht
      rw [eT_6 o] at he
      obtain ⟨a, a1, he⟩ := bnd he
      obtain ⟨b, b1, he⟩ := bnd he
      cases he
      split
      · exact VT.null _
      · exact VT.bool _
    · rw [o] at ht
      obtain ⟨x, x1, ht⟩ := mpd ht
      subst ht
      rw [eT_7 o] at he
      obtain ⟨a, a1, he⟩ := bnd he
      obtain ⟨b, b1, he⟩ := bnd he
      split at he
      · cases he; exact VT.told
      · obtain ⟨c, c1, he⟩ := bnd he
        cases he
        split
        · exact VT.told
        · exact VT.told
    · rw [o] at ht
      have ht : Except.ok 16 = (Except.ok t : Ex Nat) := ht
      cases ht
      rw [eT_8 o] at he
      obtain ⟨a, a1, he⟩ := bnd he
      cases he
      exact VT.bool _
    · rw [o] at ht
      obtain ⟨x, x1, ht⟩ := mpd ht
      subst ht
      rw [eT_9 o] at he
      obtain ⟨a, a1, he⟩ := bnd he
      obtain ⟨b, b1, he⟩ := bnd he
      cases he
      exact VT.told
    · rw [o] at ht
      obtain ⟨x, x1, ht⟩ := mpd ht
      subst ht
      obtain ⟨p, q, ep⟩ := sh.par2 (Or.inr (Or.inr (Or.inl o)))
      obtain ⟨u0, u1, rfl, v0, v1⟩ := p2 p q ep
      have sub := all_sub [u0, u1] 16 (by decide) x1
      rw [eT_10 o] at he
      obtain ⟨a, a1, he⟩ := bnd he
      have va := (v0 a a1).sub (sub u0 (by simp))
      split at he
      · cases he; exact va
      · obtain ⟨b, b1, he⟩ := bnd he
        have vb := (v1 b b1).sub (sub u1 (by simp))
        cases he
        split
        · exact vb
        · split
          · exact va
          · exact vb
    · rw [o] at ht
      obtain ⟨x, x1, ht⟩ := mpd ht
      subst ht
      obtain ⟨p, q, ep⟩ := sh.par2 (Or.inr (Or.inr (Or.inr (Or.inl o))))
      obtain ⟨u0, u1, rfl, v0, v1⟩ := p2 p q ep
      have sub := all_sub [u0, u1] 16 (by decide) x1
      rw [eT_11 o] at he
      obtain ⟨a, a1, he⟩ := bnd he
      have va := (v0 a a1).sub (sub u0 (by simp))
      split at he
      · cases he; exact va
      · obtain ⟨b, b1, he⟩ := bnd he
        have vb := (v1 b b1).sub (sub u1 (by simp))
        cases he
        split
        · exact vb
        · split
          · exact va
          · exact vb
    · rw [o] at ht
      obtain ⟨x, x1, ht⟩ := mpd ht
      subst ht
      obtain ⟨p, ep⟩ := sh.par1 (Or.inr (Or.inl o))
      rw [eT_12 o] at he
      obtain ⟨a, a1, he⟩ := bnd he
      obtain ⟨u, rfl, va⟩ := p1 p ep 0 a rfl a1
      have sub := all_sub [u] 16 (by decide) x1
      cases he
      split
      · exact va.sub (sub u (by simp))
      · exact VT.bool _
    · rw [o] at ht
      obtain ⟨x, x1, ht⟩ := mpd ht
      subst ht
      obtain ⟨p, ep⟩ := sh.par1 (Or.inr (Or.inr o))
      rw [eT_13 o] at he
      obtain ⟨a, a1, he⟩ := bnd he
      obtain ⟨u, rfl, va⟩ := p1 p ep 0 a rfl a1
      have sub := all_sub [u] 20 (by decide) x1
      split at he
      · cases he; exact va.sub (sub u (by simp))
      · exact (VT.xnum he).1
    · rw [o] at ht
      have k5 : ndK (nat_ A i) ≤ 5 := by
        rcases sh with h | h | h | h | h | h | h | h | h | h | h | h | h
        all_goals first | exact h.2.1 | (exfalso; have := h.1; omega)
      obtain ⟨p, q, ep⟩ := sh.par2 (Or.inr (Or.inr (Or.inr (Or.inr o))))
      obtain ⟨u0, u1, rfl, v0, v1⟩ := p2 p q ep
      rw [eT_14 o] at he
      obtain ⟨a, a1, he⟩ := bnd he
      obtain ⟨b, b1, he⟩ := bnd he
      have ht : (if (ndK (nat_ A i) == 5) = true then (tAll [u0, u1] 25).map fun _ => 25 else (tAll [u0, u1] 20).map fun _ => 20) = .ok t := ht
      by_cases z : ndK (nat_ A i) = 5
      · rw [if_pos (by simpa using z)] at ht
        obtain ⟨x, x1, ht⟩ := mpd ht
        subst ht
        have sub := all_sub [u0, u1] 25 (by decide) x1
        have := worked_vt he k5 (by rw [if_pos z]; exact (v0 a a1).sub (sub u0 (by simp))) (by rw [if_pos z]; exact (v1 b b1).sub (sub u1 (by simp)))
        rwa [if_pos z] at this
      · rw [if_neg (by simpa using z)] at ht
        obtain ⟨x, x1, ht⟩ := mpd ht
        subst ht
        have sub := all_sub [u0, u1] 20 (by decide) x1
        have := worked_vt he k5 (by rw [if_neg z]; exact (v0 a a1).sub (sub u0 (by simp))) (by rw [if_neg z]; exact (v1 b b1).sub (sub u1 (by simp)))
        rwa [if_neg z] at this
end
