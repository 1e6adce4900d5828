/-! the component: IN, BETWEEN, CASE are checked -/
theorem tFits_er {a b : Nat} {c : Str} (e : tFits a b = .error c) : c = sStr "42804" := by
  unfold tFits xMust at e
  split at e
  · cases e
  · cases e; rfl
theorem tSame_er {a b : Nat} {c : Str} (e : tSame a b = .error c) : c = sStr "42804" := by
  unfold tSame at e
  cases h : tFits a b with
  | error z => rw [h] at e; cases e; exact tFits_er h
  | ok z => rw [h] at e; cases e
theorem tSame_eq {a b : Nat} : tSame a b = (tFits a b >>= fun _ => .ok (if a = 0 then b else a)) := by
  unfold tSame
  cases tFits a b with
  | error c => rfl
  | ok u =>
    show Except.ok (if (a == 0) = true then b else a) = Except.ok (if a = 0 then b else a)
    by_cases e : a = 0
    · rw [if_pos e, if_pos (by simpa using e)]
    · rw [if_neg e, if_neg (by simpa using e)]
theorem tSame_ok {a b : Nat} (ha : TyOk a) (hb : TyOk b) : TyOk (if a = 0 then b else a) := by split; exact hb; exact ha
/-- as the class of CASE goes through its parts -/
def csL : List Nat → Nat → Ex Nat
  | a :: b :: l, acc => tFits a 16 >>= fun _ => tSame acc b >>= fun x => csL l x
  | [b], acc => tSame acc b
  | [], acc => .ok acc
theorem forM_er : ∀ (l : List Nat) {c : Str}, (l.forM fun t => tFits t 16) = .error c → c = sStr "42804"
  | [], c, e => by cases e
  | a :: l, c, e => by
    have e : (tFits a 16 >>= fun _ => l.forM fun t => tFits t 16) = .error c := e
    cases h : tFits a 16 with
    | error z => rw [h] at e; cases e; exact tFits_er h
    | ok z => rw [h] at e; exact forM_er l e
theorem cs_eq (k : Nat) (hk : k ≤ 1) : ∀ (w : Nat) (ts : List Nat) (acc : Nat), ts.length = 2 * w + k → (((evens (ts.take (2 * w))).forM fun t => tFits t 16) >>= fun _ => (evens ((ts.take (2 * w)).drop 1) ++ ts.drop (2 * w)).foldlM tSame acc) = csL ts acc
  | 0, ts, acc, hl => by
    rcases (show k = 0 ∨ k = 1 by omega) with rfl | rfl
    · have : ts = [] := List.length_eq_zero_iff.mp hl
      subst this; rfl
    · match ts, hl with
      | [b], _ =>
        show (tSame acc b >>= fun x => Except.ok x) = tSame acc b
        cases tSame acc b <;> rfl
  | w + 1, ts, acc, hl => by
    match ts, hl with
    | [], hl => exact absurd hl (by simp; omega)
    | [_], hl => exact absurd hl (by simp; omega)
    | a :: b :: l, hl =>
      have ll : l.length = 2 * w + k := by simp at hl; omega
      have e1 : (a :: b :: l).take (2 * (w + 1)) = a :: b :: l.take (2 * w) := by
        rw [show 2 * (w + 1) = 2 * w + 1 + 1 by omega, List.take_succ_cons, List.take_succ_cons]
      have e2 : (a :: b :: l).drop (2 * (w + 1)) = l.drop (2 * w) := by
        rw [show 2 * (w + 1) = 2 * w + 1 + 1 by omega, List.drop_succ_cons, List.drop_succ_cons]
      rw [e1, e2]
      have e3 : evens ((a :: b :: l.take (2 * w)).drop 1) = b :: evens ((l.take (2 * w)).drop 1) := by
        show evens (b :: l.take (2 * w)) = _
        cases l.take (2 * w) with
        | nil => rfl
        | cons c m => rfl
      rw [e3]
      show (((a :: evens (l.take (2 * w))).forM fun t => tFits t 16) >>= fun _ => (b :: (evens ((l.take (2 * w)).drop 1) ++ l.drop (2 * w))).foldlM tSame acc) = (tFits a 16 >>= fun _ => tSame acc b >>= fun x => csL l x)
      rw [List.foldlM_cons]
      show ((tFits a 16 >>= fun _ => (evens (l.take (2 * w))).forM fun t => tFits t 16) >>= fun _ => _) = _
      cases tFits a 16 with
      | error c => rfl
      | ok u =>
        show (((evens (l.take (2 * w))).forM fun t => tFits t 16) >>= fun _ => (tSame acc b >>= fun x => _)) = (tSame acc b >>= fun x => csL l x)
        cases hs : tSame acc b with
        | ok x => exact cs_eq k hk w l x ll
        | error c =>
          show (((evens (l.take (2 * w))).forM fun t => tFits t 16) >>= fun _ => Except.error c) = Except.error c
          cases hf : ((evens (l.take (2 * w))).forM fun t => tFits t 16) with
          | ok u => rfl
          | error c' =>
            show Except.error c' = Except.error c
            rw [forM_er _ hf, tSame_er hs]
theorem tCase_eq {k w : Nat} {ts : List Nat} (hk : k ≤ 1) (hl : ts.length = 2 * w + k) : tCase k ts = csL ts 0 := by
  rw [← cs_eq k hk w ts 0 hl]
  unfold tCase
  rw [show ts.length - k = 2 * w by omega]
  rfl
section
variable {D : JD} {h h' h'' hm h0 : JH} {ρ : Nat → Nat} {A : List Nod} {E : TEnv} {d sc r x i n f p q : Nat} {M : Nat → Prop} {wi : Bool} {ps ts : List Nat}
/-- the parts of r have the types ts -/
def PtT (D : JD) (h : JH) (ρ : Nat → Nat) (r : Nat) (ps ts : List Nat) : Prop := PtsR h ρ r ps ∧ r ≠ 0 ∧ ts.length = ps.length ∧ ∀ (j p t : Nat), ps[j]? = some p → ts[j]? = some t → ρ p ≠ 0 ∧ jfr h 109 (ρ p) = tyc D t ∧ TyOk t
theorem PtT.at {k : Nat} (P : PtT D h ρ r ps ts) (hk : k < ts.length) : ∃ p, ps[k]? = some p ∧ jar h (jfr h 111 r) k = ρ p ∧ ρ p ≠ 0 ∧ jfr h 109 (ρ p) = tyc D ts[k] ∧ TyOk ts[k] := by
  obtain ⟨P1, P2, P3, P4⟩ := P
  have ek : ps[k]? = some (ps[k]'(by omega)) := List.getElem?_eq_getElem (by omega)
  have et : ts[k]? = some ts[k] := List.getElem?_eq_getElem hk
  have := P4 k _ _ ek et
  exact ⟨_, ek, P1.2.2.2.2.2 k _ ek, this.1, this.2.1, this.2.2⟩
theorem w_oneL {Q : JO → JH → Prop} (P : PtT D h ρ r ps ts) (hI : JInv D h) (hd : 8 ≤ d) (hQ : ∀ t, tOne ts = .ok t → TyOk t → Q (.inl (some (vR 52 (tyc D t)))) h) (hE : ∀ y h' c, JInv D h' → tOne ts = .error c → Flt h h' y c → Q (.inr y) h') :
    ∀ g k a, ts.length < g + k → k ≤ ts.length → TyOk a → (ts.drop k).foldlM tSame a = tOne ts → L_X26_one_6 D d Q g r (tyc D a) (nI k) h
  | 0, k, a, h1, h2, _, _ => by exfalso; omega
  | g + 1, k, a, h1, h2, ha, eq => by
    have p5 := P.1.2.2.2.2.1
    have p4 := P.1.2.2.2.1
    have tl := P.2.2.1
    refine ⟨P.2.1, fun z => ?_, fun z => ?_⟩
    · rw [P.1.2.2.1, nI_leI (by omega) (by omega)] at z
      rw [List.drop_eq_nil_of_le (by omega)] at eq
      exact hQ a eq.symm ha
    · rw [P.1.2.2.1, nI_leI (by omega) (by omega)] at z
      have kl : k < ts.length := by omega
      obtain ⟨p, e1, e2, e3, e4, e5⟩ := P.at kl
      rw [List.drop_eq_getElem_cons kl, List.foldlM_cons, tSame_eq] at eq
      rw [ixn_nI (by omega), e2, e4]
      refine ⟨P.1.1, jin_nI (by omega) (by omega), e3, useV (w_tneed ha e5 hd) ?_ ?_⟩
      · rintro h3 hI3 _ ⟨f3, he⟩
        have he := he.symm
        subst he
        rw [f3] at eq
        have eq : (ts.drop (k + 1)).foldlM tSame (if a = 0 then ts[k] else a) = tOne ts := eq
        have go := w_oneL P hI hd hQ hE g (k + 1) _ (by omega) (by omega) (tSame_ok ha e5) eq
        refine ⟨fun y => ?_, fun y => ?_⟩
        · rw [if_neg fun b => y (by rw [b]; rfl)] at go
          show L_X26_one_6 D d Q g r (tyc D a) (nI k + 1) h
          rw [nI_1]; exact go
        · have := tyc_inj hI ha (Or.inl rfl) y
          rw [if_pos this] at go
          show L_X26_one_6 D d Q g r (tyc D ts[k]) (nI k + 1) h
          rw [nI_1]; exact go
      · rintro y h3 hI3 _ ⟨f3, x3⟩
        rw [f3] at eq
        exact hE y h3 _ hI3 eq.symm x3
theorem w_one (P : PtT D h ρ r ps ts) (hd : 9 ≤ d) : cX26_one D d r h (pR D h 52 (fun v h' => ∃ t, tOne ts = .ok t ∧ v = tyc D t ∧ TyOk t ∧ h' = h) (fun y h' => ∃ c, tOne ts = .error c ∧ Flt h h' y c)) := by
  obtain ⟨e, rfl, he⟩ := dsucc hd
  refine JW.inv fun hI => t_X26_one ⟨ts.length + 1, w_oneL P hI he (fun t e1 e2 => endR fun _ _ _ => ⟨t, e1, rfl, e2, rfl⟩) (fun y h' c _ e1 x1 => endX fun _ _ => ⟨c, e1, x1⟩) (ts.length + 1) 0 0 (by omega) (by omega) (Or.inl rfl) rfl⟩
theorem PtK.ptT (P : PtK D A E ρ sc f i h0 h (ndP (nat_ A i)) ts) (hA : NOK A) (il : i < A.length) (o : ndO (nat_ A i) = 3 ∨ ndO (nat_ A i) = 4 ∨ ndO (nat_ A i) = 5 ∨ ndO (nat_ A i) = 7) : PtT D h ρ (ρ i) (ndP (nat_ A i)) ts := by
  obtain ⟨P1, P2, P3, P4, P5, P6⟩ := P
  refine ⟨(P3 i il).2.2.2.2.2.2.2.1 o, (P3 i il).1, P5, fun j p t e1 e2 => ⟨?_, (P6 j p t e1 e2).1, (P6 j p t e1 e2).2.1⟩⟩
  have := (Til.lt (hA i il).2.1).2 p (List.mem_of_getElem? e1)
  exact (P3 p (by omega)).1
theorem PtK.pl (P : PtK D A E ρ sc f i h0 h (ndP (nat_ A i)) ts) (o : ndO (nat_ A i) ≠ 2) : PlT A E h ρ (f + 1) i := by
  obtain ⟨P1, P2, P3, P4, P5, P6⟩ := P
  refine ⟨fun z => absurd z o, fun p hp => ?_⟩
  obtain ⟨j, hj, rfl⟩ := List.mem_iff_getElem.mp hp
  exact (P6 j _ _ (List.getElem?_eq_getElem hj) (List.getElem?_eq_getElem (by omega))).2.2
theorem PtK.nil (tr : TreeR D h A ρ) (sC : ScC D h sc E) : PtK D A E ρ sc f i h h [] [] := ⟨CkF.rf, rfl, tr, sC, rfl, fun j p t e => by simp at e⟩
theorem Shp.len {n : Nod} (hs : Shp n) : (ndP n).length ≤ 40 := by
  rcases hs with h | h | h | h | h | h | h | h | h | h | h | h | h
  · rw [h.2.2.1]; decide
  · rw [h.2.1]; decide
  · rw [h.2.2]; decide
  · have := h.2.1; omega
  · obtain ⟨w, w1, w2, w3⟩ := h.2.2
    have := h.2.1
    omega
  · have := h.2.2.2; omega
  · rw [h.2.2]; decide
  · rw [h.2.2]; decide
  · rw [h.2.2]; decide
  · rw [h.2.2]; decide
  · rw [h.2.2]; decide
  · rw [h.2.2]; decide
  · rw [h.2.2]; decide
theorem wiEq (o : ndO (nat_ A i) ≠ 3) : (wi || (ndO (nat_ A i) == 3 && tGather (ndS (nat_ A i)))) = wi := by
  rw [show (ndO (nat_ A i) == 3) = false by simpa using o]; simp
theorem ck_with (hA : NOK A) (ri : RI ρ A.length) (IH : CKX D A E ρ sc f) (hi : i < f + 1) (il : i < A.length) (hb : HB A (n + 1) i) (o : ndO (nat_ A i) = 5 ∨ ndO (nat_ A i) = 7) (tr : TreeR D h A ρ) (sC : ScC D h sc E) (hw : jfi h 52 sc = (if wi = true then 1 else 0)) (hd : n + 13 ≤ d) :
    cX35_check D d (ρ i) sc h (pR D h 52 (CkOk D A E ρ sc (f + 1) i h (tTree A E (f + 1) wi i)) (CkEr A ρ sc i h (tTree A E (f + 1) wi i))) := by
  obtain ⟨e, rfl, he⟩ := dsucc hd
  have sh := (hA i il).2.2.1
  have mi : NM A ρ (ndL (nat_ A i)) (i + 1) (ρ i) := nmI il (hA i il).1 (by omega) (by omega)
  have o4 : ndO (nat_ A i) = 3 ∨ ndO (nat_ A i) = 4 ∨ ndO (nat_ A i) = 5 ∨ ndO (nat_ A i) = 7 := by omega
  have eqT : tTree A E (f + 1) wi i = ((ndP (nat_ A i)).mapM (tTree A E f wi) >>= fun ts => (tOne ts).map fun _ => 16) := by
    rw [tTree_eq, wiEq (by omega)]
    congr 1
    funext ts
    unfold tNode
    rcases o with z | z <;> (rw [z]; rfl)
  refine JW.inv fun hI => t_X35_check ⟨(ndP (nat_ A i)).length + 1, w_partsC (d := e) (Q := (pR D h 52 (CkOk D A E ρ sc (f + 1) i h (tTree A E (f + 1) wi i)) (CkEr A ρ sc i h (tTree A E (f + 1) wi i)))) (Lp := fun g x y => L_X35_check_2 D e (pR D h 52 (CkOk D A E ρ sc (f + 1) i h (tTree A E (f + 1) wi i)) (CkEr A ρ sc i h (tTree A E (f + 1) wi i))) g (ρ i) sc x y) (n := n) hA ri IH hi il hb (by omega) hw sh.len (fun h' t' => (t' i il).2.2.2.2.2.2.2.1 o4) (fun g x h' z => ⟨z.1, z.2.1, z.2.2⟩) ?_ ?_ ((ndP (nat_ A i)).length + 1) 0 [] h (by omega) (by omega) hI rfl (PtK.nil tr sC)⟩
  · rintro h1 ts hI1 em P
    have nr := P.2.2.1 i il
    refine useR (w_one (P.ptT hA il o4) (by omega)) ?_ ?_
    · rintro v h2 hI2 _ ⟨t, t1, t2, t3, rfl⟩
      rintro h3 rfl
      rw [show jfr (wfr h2 109 (ρ i) (jcs D 357)) 109 (ρ i) = jcs D 357 by rw [jfr_wfr, if_pos ⟨rfl, rfl⟩]]
      refine endR fun _ _ _ => ⟨16, by rw [eqT, em, ok_bind, t1]; rfl, rfl, ty16, by rw [jfr_wfr, if_pos ⟨rfl, rfl⟩], (P.1.mono fun z hz => hz.mono (Nat.le_refl _) (by omega)).tr (CkF.ty mi), P.2.1, PlT.ty9 _ _ (P.pl (by omega))⟩
    · rintro y h2 hI2 _ ⟨c, c1, c2⟩
      exact endX fun _ _ => ⟨c, h1, by rw [eqT, em, ok_bind, c1]; rfl, P.1.mono fun z hz => hz.mono (Nat.le_refl _) (by omega), c2⟩
  · rintro y h1 c hm hI1 em c1 c2
    exact endX fun _ _ => ⟨c, hm, by rw [eqT, em]; rfl, c1, c2⟩
theorem i2_even {k : Nat} (hk : k < 1000) : (nI k - nI k / 2 * 2 = 0) ↔ k % 2 = 0 := by
  have key : ∀ k, k < 1000 → (decide (nI k - nI k / 2 * 2 = 0) = decide (k % 2 = 0)) := by decide +kernel
  have := key k hk
  simpa using this
/-- CASE: its second round -/
theorem w_csL {Q : JO → JH → Prop} (P : PtT D h ρ r ps ts) (hI : JInv D h) (hl : ts.length ≤ 40) (hd : 8 ≤ d) (hQ : ∀ t, csL ts 0 = .ok t → TyOk t → Q (.inl (some (vR 52 (tyc D t)))) (wfr h 109 r (tyc D t))) (hE : ∀ y h' c, JInv D h' → csL ts 0 = .error c → Flt h h' y c → Q (.inr y) h') :
    ∀ g k a, ts.length < g + k → k ≤ ts.length → k % 2 = 0 ∨ k = ts.length → TyOk a → csL (ts.drop k) a = csL ts 0 → L_X27_check_33 D d Q g r (tyc D a) (nI k) h
  | 0, k, a, h1, h2, _, _, _ => by exfalso; omega
  | g + 1, k, a, h1, h2, hk, ha, eq => by
    have p4 := P.1.2.2.2.1
    have p5 := P.1.2.2.2.2.1
    have tl := P.2.2.1
    refine ⟨P.2.1, fun z => ?_, fun z => ?_⟩
    · rw [P.1.2.2.1, nI_leI (by omega) (by omega)] at z
      rw [List.drop_eq_nil_of_le (by omega)] at eq
      rintro h3 rfl
      exact hQ a eq.symm ha
    · rw [P.1.2.2.1, nI_leI (by omega) (by omega)] at z
      have kl : k < ts.length := by omega
      have ev : k % 2 = 0 := by omega
      obtain ⟨p, e1, e2, e3, e4, e5⟩ := P.at kl
      rw [ixn_nI (by omega), e2, e4]
      refine ⟨P.1.1, jin_nI (by omega) (by omega), e3, fun y => absurd ((i2_even (by omega)).mpr ev) y, fun _ => ⟨fun y => ?_, fun y => ?_⟩⟩
      · rw [P.1.2.2.1, nI_1, nI_leI (by omega) (by omega)] at y
        have last : k + 1 = ts.length := by omega
        rw [List.drop_eq_getElem_cons kl, List.drop_eq_nil_of_le (by omega)] at eq
        have eq : tSame a ts[k] = csL ts 0 := eq
        rw [tSame_eq] at eq
        refine useV (w_tneed ha e5 hd) ?_ ?_
        · rintro h3 hI3 _ ⟨f3, he⟩
          have he := he.symm
          subst he
          rw [f3] at eq
          have eq : Except.ok (if a = 0 then ts[k] else a) = csL ts 0 := eq
          have go := w_csL P hI hl hd hQ hE g (k + 1) _ (by omega) (by omega) (Or.inr last) (tSame_ok ha e5) (by rw [List.drop_eq_nil_of_le (by omega)]; exact eq)
          refine ⟨fun b => ?_, fun b => ?_⟩
          · rw [if_neg fun w => b (by rw [w]; rfl)] at go
            show L_X27_check_33 D d Q g r (tyc D a) (nI k + 1) h
            rw [nI_1]; exact go
          · have := tyc_inj hI ha (Or.inl rfl) b
            rw [if_pos this] at go
            show L_X27_check_33 D d Q g r (tyc D ts[k]) (nI k + 1) h
            rw [nI_1]; exact go
        · rintro w h3 hI3 _ ⟨f3, x3⟩
          rw [f3] at eq
          exact hE w h3 _ hI3 eq.symm x3
      · rw [P.1.2.2.1, nI_1, nI_leI (by omega) (by omega)] at y
        have kl' : k + 1 < ts.length := by omega
        rw [List.drop_eq_getElem_cons kl, List.drop_eq_getElem_cons kl'] at eq
        have eq : (tFits ts[k] 16 >>= fun _ => tSame a ts[k + 1] >>= fun x => csL (ts.drop (k + 1 + 1)) x) = csL ts 0 := eq
        refine useV (w_tneed e5 ty16 hd) ?_ ?_
        · rintro h3 hI3 _ ⟨f3, he⟩
          have he := he.symm
          subst he
          rw [f3, ok_bind, tSame_eq] at eq
          show L_X27_check_33 D d Q g r (tyc D a) (nI k + 1) h
          rw [nI_1]
          -- the value behind it
          obtain ⟨g', rfl⟩ : ∃ g', g = g' + 1 := ⟨g - 1, by omega⟩
          obtain ⟨p', d1, d2, d3, d4, d5⟩ := P.at kl'
          refine ⟨P.2.1, fun b => ?_, fun b => ?_⟩
          · rw [P.1.2.2.1, nI_leI (by omega) (by omega)] at b
            exfalso; omega
          rw [ixn_nI (by omega), d2, d4]
          refine ⟨P.1.1, jin_nI (by omega) (by omega), d3, fun _ => ?_, fun b => ?_⟩
          · refine useV (w_tneed ha d5 hd) ?_ ?_
            · rintro h4 hI4 _ ⟨f4, he⟩
              have he := he.symm
              subst he
              rw [f4] at eq
              have eq : csL (ts.drop (k + 1 + 1)) (if a = 0 then ts[k + 1] else a) = csL ts 0 := eq
              have go := w_csL P hI hl hd hQ hE g' (k + 1 + 1) _ (by omega) (by omega) (Or.inl (by omega)) (tSame_ok ha d5) eq
              refine ⟨fun b => ?_, fun b => ?_⟩
              · rw [if_neg fun w => b (by rw [w]; rfl)] at go
                show L_X27_check_33 D d Q g' r (tyc D a) (nI (k + 1) + 1) h
                rw [nI_1]; exact go
              · have := tyc_inj hI ha (Or.inl rfl) b
                rw [if_pos this] at go
                show L_X27_check_33 D d Q g' r (tyc D ts[k + 1]) (nI (k + 1) + 1) h
                rw [nI_1]; exact go
            · rintro w h4 hI4 _ ⟨f4, x4⟩
              rw [f4] at eq
              exact hE w h4 _ hI4 eq.symm x4
          · rw [i2_even (by omega)] at b
            exfalso; omega
        · rintro w h3 hI3 _ ⟨f3, x3⟩
          rw [f3] at eq
          exact hE w h3 _ hI3 eq.symm x3
theorem ck_case (hA : NOK A) (ri : RI ρ A.length) (IH : CKX D A E ρ sc f) (hi : i < f + 1) (il : i < A.length) (hb : HB A (n + 1) i) (o : ndO (nat_ A i) = 4) (tr : TreeR D h A ρ) (sC : ScC D h sc E) (hw : jfi h 52 sc = (if wi = true then 1 else 0)) (hd : n + 13 ≤ d) :
    cX27_check D d (ρ i) sc h (pR D h 52 (CkOk D A E ρ sc (f + 1) i h (tTree A E (f + 1) wi i)) (CkEr A ρ sc i h (tTree A E (f + 1) wi i))) := by
  obtain ⟨e, rfl, he⟩ := dsucc hd
  have sh := (hA i il).2.2.1
  have mi : NM A ρ (ndL (nat_ A i)) (i + 1) (ρ i) := nmI il (hA i il).1 (by omega) (by omega)
  have o4 : ndO (nat_ A i) = 3 ∨ ndO (nat_ A i) = 4 ∨ ndO (nat_ A i) = 5 ∨ ndO (nat_ A i) = 7 := by omega
  obtain ⟨k1, w, w1, w2, w3⟩ : ndK (nat_ A i) ≤ 1 ∧ ∃ w, 1 ≤ w ∧ w ≤ 19 ∧ (ndP (nat_ A i)).length = 2 * w + ndK (nat_ A i) := by
    rcases sh with h | h | h | h | h | h | h | h | h | h | h | h | h
    all_goals first | exact h.2 | (exfalso; have := h.1; omega)
  have eqT : tTree A E (f + 1) wi i = ((ndP (nat_ A i)).mapM (tTree A E f wi) >>= fun ts => tCase (ndK (nat_ A i)) ts) := by
    rw [tTree_eq, wiEq (by omega)]
    congr 1
    funext ts
    unfold tNode
    rw [o]
    rfl
  refine JW.inv fun hI => t_X27_check ⟨(ndP (nat_ A i)).length + 1, w_partsC (d := e) (Q := (pR D h 52 (CkOk D A E ρ sc (f + 1) i h (tTree A E (f + 1) wi i)) (CkEr A ρ sc i h (tTree A E (f + 1) wi i)))) (Lp := fun g x y => L_X27_check_2 D e (pR D h 52 (CkOk D A E ρ sc (f + 1) i h (tTree A E (f + 1) wi i)) (CkEr A ρ sc i h (tTree A E (f + 1) wi i))) g (ρ i) sc x y) (n := n) hA ri IH hi il hb (by omega) hw sh.len (fun h' t' => (t' i il).2.2.2.2.2.2.2.1 o4) (fun g x h' z => ⟨z.1, z.2.1, z.2.2⟩) ?_ ?_ ((ndP (nat_ A i)).length + 1) 0 [] h (by omega) (by omega) hI rfl (PtK.nil tr sC)⟩
  · rintro h1 ts hI1 em P
    have tl := P.2.2.2.2.1
    have eqC : tCase (ndK (nat_ A i)) ts = csL ts 0 := tCase_eq k1 (by rw [tl]; exact w3)
    refine ⟨ts.length + 1, w_csL (P.ptT hA il o4) hI1 (by omega) (by omega) ?_ ?_ (ts.length + 1) 0 0 (by omega) (by omega) (Or.inl rfl) (Or.inl rfl) rfl⟩
    · rintro t t1 t3
      refine endR fun _ _ _ => ⟨t, by rw [eqT, em, ok_bind, eqC]; exact t1, rfl, t3, by rw [jfr_wfr, if_pos ⟨rfl, rfl⟩], (P.1.mono fun z hz => hz.mono (Nat.le_refl _) (by omega)).tr (CkF.ty mi), P.2.1, PlT.ty9 _ _ (P.pl (by omega))⟩
    · rintro y h2 c hI2 c1 c2
      exact endX fun _ _ => ⟨c, h1, by rw [eqT, em, ok_bind, eqC]; exact c1, P.1.mono fun z hz => hz.mono (Nat.le_refl _) (by omega), c2⟩
  · rintro y h1 c hm hI1 em c1 c2
    exact endX fun _ _ => ⟨c, hm, by rw [eqT, em]; rfl, c1, c2⟩
end
