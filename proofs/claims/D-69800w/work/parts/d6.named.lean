/-! the component: which column an order of SELECT goes by -/
section
variable {D : JD} {h h' h'' h0 h1 h2 : JH} {ρ ρ0 : Nat → Nat} {A A0 : List Nod} {E E' : TEnv} {c r i v k j d e sc n B u x z s nm arr cnt ra rb cn t tt τ itq ik : Nat} {y : Stm} {pt : List Nat} {S : Nat → Prop} {w w1 w2 : Str} {L L0 : List (Nat × List (Str × Tab))} {gs : List Nat} {gr : Bool} {cs : List SCol} {nd : Nod} {q q0 : List Nod × List SCol} {ss : List (Str × Tab)} {tb : Tab} {T : List Tab} {X : List Nat} {it : Itm}
/-- how many columns a star stands for, an item -/
def stW (E : TEnv) (o : Option Str) (l : List (Str × Tab)) : Nat := ((l.filter (ofM o)).map fun a => a.2.2.1.length).sum
def iwd (E : TEnv) (it : Itm) : Nat := if it.1 = true then stW E it.2.1 E.1 else 1
def isum (E : TEnv) (is : List Itm) (k : Nat) : Nat := ((is.take k).map (iwd E)).sum
theorem cAdd_len {c : SCol} {cs' : List SCol} (e : cAdd cs c = .ok cs') : cs'.length = cs.length + 1 := by
  unfold cAdd at e
  split at e
  · cases e
  · cases e
    rw [List.length_append]; rfl
theorem cStar1_len {cc : Col} {q' : List Nod × List SCol} (e : cStar1 gr E gs w cc q = .ok q') : q'.2.length = q.2.length + 1 := by
  have e : (cApart gr (q.1 ++ [(2, 0, cc.1, some w, vNull, [], q.1.length)]) E gs q.1.length >>= fun _ => cAdd q.2 (q.1.length, cc.1, cc.2.1) >>= fun cs => .ok (q.1 ++ [(2, 0, cc.1, some w, vNull, [], q.1.length)], cs)) = .ok q' := e
  cases e1 : cApart gr (q.1 ++ [(2, 0, cc.1, some w, vNull, [], q.1.length)]) E gs q.1.length with
  | error z => rw [e1] at e; cases e
  | ok u =>
    rw [e1, ok_bind] at e
    cases e2 : cAdd q.2 (q.1.length, cc.1, cc.2.1) with
    | error z => rw [e2] at e; cases e
    | ok cs =>
      rw [e2, ok_bind] at e
      cases e
      exact cAdd_len e2
theorem cStarT_len : ∀ (l : List Col) {q q' : List Nod × List SCol}, cStarT gr E gs w l q = .ok q' → q'.2.length = q.2.length + l.length
  | [], q, q', e => by cases e; rfl
  | a :: l, q, q', e => by
    rw [cStarT_eq] at e
    cases e1 : cStar1 gr E gs w a q with
    | error z => rw [e1] at e; cases e
    | ok q1 =>
      rw [e1, ok_bind] at e
      rw [cStarT_len l e, cStar1_len e1, List.length_cons]
      omega
theorem cStars_len {o : Option Str} : ∀ (l : List (Str × Tab)) {q q' : List Nod × List SCol}, cStars gr E gs o l q = .ok q' → q'.2.length = q.2.length + stW E o l
  | [], q, q', e => by cases e; rfl
  | a :: l, q, q', e => by
    rw [cStars_eq] at e
    by_cases c : ofM o a = true
    · have hw : stW E o (a :: l) = a.2.2.1.length + stW E o l := by
        unfold stW
        rw [List.filter_cons_of_pos (show ofM o a = true from c), List.map_cons, List.sum_cons]
      rw [if_pos c] at e
      cases e1 : cStarT gr E gs a.1 a.2.2.1 q with
      | error z => rw [e1] at e; cases e
      | ok q1 =>
        rw [e1, ok_bind] at e
        rw [cStars_len l e, cStarT_len _ e1, hw]
        omega
    · have hw : stW E o (a :: l) = stW E o l := by
        unfold stW
        rw [List.filter_cons_of_neg (show ¬ ofM o a = true from c)]
      rw [if_neg c, ok_bind] at e
      rw [cStars_len l e, hw]
theorem cItem_len {q' : List Nod × List SCol} (e : cItem gr E gs it q = .ok q') : q'.2.length = q.2.length + iwd E it := by
  unfold cItem at e
  unfold iwd
  cases hs : it.1 with
  | true =>
    rw [hs, if_pos rfl] at e
    rw [if_pos rfl]
    cases e1 : xMust (it.2.1.isSome || !E.1.isEmpty) "42601" with
    | error z => rw [e1] at e; cases e
    | ok u =>
      rw [e1, ok_bind] at e
      cases e2 : xMust (it.2.1.isNone || E.1.any fun s => it.2.1 == some s.1) "42P01" with
      | error z => rw [e2] at e; cases e
      | ok u =>
        rw [e2, ok_bind] at e
        exact cStars_len _ e
  | false =>
    rw [hs, if_neg (by decide)] at e
    rw [if_neg (by decide)]
    cases e1 : tType q.1 E it.2.2 with
    | error z => rw [e1] at e; cases e
    | ok t =>
      rw [e1, ok_bind] at e
      cases e2 : cApart gr q.1 E gs it.2.2 with
      | error z => rw [e2] at e; cases e
      | ok u =>
        rw [e2, ok_bind] at e
        cases e3 : cAdd q.2 (it.2.2, it.2.1.getD (cTitle (q.1.getD it.2.2 nNone)), t) with
        | error z => rw [e3] at e; cases e
        | ok cs =>
          rw [e3, ok_bind] at e
          cases e
          exact cAdd_len e3
theorem cItems_st : ∀ (l : List Itm) {q q' : List Nod × List SCol} {st st' : List Nat}, cItems gr E gs l q st = .ok (q', st') → (∀ j, j < l.length → st'.getD (st.length + j) 0 = q.2.length + isum E l j) ∧ (∀ j, j < st.length → st'.getD j 0 = st.getD j 0) ∧ q'.2.length = q.2.length + isum E l l.length
  | [], q, q', st, st', e => by
    cases e
    exact ⟨fun j hj => absurd hj (Nat.not_lt_zero _), fun _ _ => rfl, rfl⟩
  | it :: l, q, q', st, st', e => by
    rw [cItems_eq] at e
    cases e1 : cItem gr E gs it q with
    | error z => rw [e1] at e; cases e
    | ok q1 =>
      rw [e1, ok_bind] at e
      obtain ⟨a1, a2, a3⟩ := cItems_st l e
      have ln := cItem_len e1
      have sl : (st ++ [q.2.length]).length = st.length + 1 := by rw [List.length_append]; rfl
      have is1 : ∀ j, isum E (it :: l) (j + 1) = iwd E it + isum E l j := fun j => by
        unfold isum
        rw [List.take_succ_cons, List.map_cons, List.sum_cons]
      refine ⟨fun j hj => ?_, fun j hj => ?_, ?_⟩
      · cases j with
        | zero =>
          rw [Nat.add_zero, a2 st.length (by omega), List.getD_eq_getElem?_getD, List.getElem?_append, if_neg (Nat.lt_irrefl _), Nat.sub_self]
          rfl
        | succ j =>
          have := a1 j (by rw [List.length_cons] at hj; omega)
          rw [sl] at this
          rw [show st.length + (j + 1) = st.length + 1 + j by omega, this, ln, is1]
          omega
      · rw [a2 j (by omega), List.getD_eq_getElem?_getD, List.getElem?_append, if_pos hj, List.getD_eq_getElem?_getD]
      · rw [a3, ln, List.length_cons, is1]
        omega
/-- Select.width -/
theorem w_widL {Q : JO → JH → Prop} (I : SkI D A0 ρ0 sc E pt L0 v gs gr X q h h1) (hI : JInv D h) (kd : SelR h ρ0 v y) (eb : EnT D h e T) (sr : SrT D h v e T y E.1) (hT : TbT T) (hk : (slI (smS y))[ik]? = some it) (his : it.1 = true) (hd : 3 ≤ d) (hQ : Q (.inl (some (vI (nI (stW E it.2.1 E.1))))) h1) :
    ∀ (m k : Nat), k + m = E.1.length → L_X40_width_4 D d Q (m + 1) v (jar h (jfr h 142 v) ik) (nI (stW E it.2.1 (E.1.take k))) (nI k) h1
  | m, k, hm => by
    obtain ⟨v0, vk⟩ := kd.vk
    obtain ⟨kf, sg, f8, z1, z2, sc0, f160⟩ := I.pp
    have kd1 : SelR h1 ρ0 v y := kd.sf sg
    obtain ⟨_, _, c1, c2⟩ := kd1.src
    have le := sr.1
    refine ⟨v0, fun g => ?_, fun g => ?_⟩
    · rw [c1] at g
      have := (nI_leI (by omega) (by omega)).mp g
      rw [List.take_of_length_le (by omega)]
      exact hQ
    · rw [c1] at g
      have kl : k < E.1.length := Nat.lt_of_not_le fun z => g ((nI_leI (by omega) (by omega)).mpr (by omega))
      obtain ⟨m', rfl⟩ : ∃ m', m = m' + 1 := ⟨m - 1, by omega⟩
      have hs : (slF (smS y))[k]? = some ((slF (smS y))[k]'(by omega)) := List.getElem?_eq_getElem (by omega)
      generalize (slF (smS y))[k]'(by omega) = s at hs
      obtain ⟨e144, aS, ejs, su, kk, g1, g2, g3, tc⟩ := I.src hI kd eb sr hT hs
      obtain ⟨_, _, _, ir⟩ := I.itm kd hk
      have is1 := ir.2.2.2.1 his
      obtain ⟨kl', ke⟩ := List.getElem?_eq_some_iff.mp g2
      have stk : stW E it.2.1 (E.1.take (k + 1)) = stW E it.2.1 (E.1.take k) + (if ofM it.2.1 (s.2.1, tbGet T kk) = true then (tbGet T kk).2.1.length else 0) := by
        unfold stW
        rw [List.take_succ_eq_append_getElem kl, ke, List.filter_append, List.map_append, List.sum_append]
        congr 1
        by_cases c : ofM it.2.1 (s.2.1, tbGet T kk) = true
        · rw [if_pos c, List.filter_cons_of_pos c]
          rfl
        · rw [if_neg c, List.filter_cons_of_neg c]
          rfl
      have ixk : ixn (nI k) = k := ixn_nI (by omega)
      have IH := w_widL I hI kd eb sr hT hk his hd hQ m' (k + 1) (by omega)
      rw [stk] at IH
      have go : ofM it.2.1 (s.2.1, tbGet T kk) = true → W_X40_width_38 D d Q (L_X40_width_4 D d Q (m' + 1)) v (jar h (jfr h 142 v) ik) (nI (stW E it.2.1 (E.1.take k))) (nI k) h1 := fun om => by
        rw [if_pos om] at IH
        refine ⟨v0, ?_⟩
        rw [e144, ixk, ejs, g3, tc.2.2.2.1]
        refine ⟨aS.1, by rw [aS.2.2]; exact jin_nI (by omega) (by decide), su.1, tc.1, ?_⟩
        show L_X40_width_4 D d Q (m' + 1) v (jar h (jfr h 142 v) ik) (nI (stW E it.2.1 (E.1.take k)) + nI (tbGet T kk).2.1.length) (nI k + 1) h1
        rw [nI_1, nI_add]
        exact IH
      have skip : ofM it.2.1 (s.2.1, tbGet T kk) = false → L_X40_width_4 D d Q (m' + 1) v (jar h (jfr h 142 v) ik) (nI (stW E it.2.1 (E.1.take k))) (nI k + 1) h1 := fun om => by
        rw [if_neg (by rw [om]; decide), Nat.add_zero] at IH
        rw [nI_1]
        exact IH
      rw [e144, ixk, ejs]
      refine ⟨ir.1, fun g5 => ?_, fun g5 => ⟨aS.1, by rw [aS.2.2]; exact jin_nI (by omega) (by decide), su.1, su.2.2.2.1.1, ?_⟩⟩
      · cases ho : it.2.1 with
        | none =>
          rw [← ho]
          exact go (by rw [ho]; rfl)
        | some w => rw [ho] at is1; exact absurd g5 is1.1
      · cases ho : it.2.1 with
        | none => rw [ho] at is1; exact absurd is1 g5
        | some w =>
          rw [ho] at is1
          have is1 : StR h1 (jfr h1 162 (jar h (jfr h 142 v) ik)) w := is1
          refine JW.up (n := 2) (fun dd => useI0 (k_equals (d := dd) su.2.2.2.1 is1) ?_) (by omega)
          rintro v3 h4 hI4 _ ⟨rfl, he4⟩
          have he4 := he4.symm
          subst he4
          rw [← ho]
          by_cases ec : s.2.1 = w
          · rw [if_pos ec]
            exact ⟨fun z => absurd z (by decide), fun _ => go (by rw [ho, ec]; exact beq_self_eq_true _)⟩
          · rw [if_neg ec]
            refine ⟨fun _ => skip ?_, fun z => absurd rfl z⟩
            rw [ho]
            show (w == s.2.1) = false
            simpa using fun z => ec z.symm
theorem w_wid (I : SkI D A0 ρ0 sc E pt L0 v gs gr X q h h1) (hI : JInv D h) (kd : SelR h ρ0 v y) (eb : EnT D h e T) (sr : SrT D h v e T y E.1) (hT : TbT T) (hk : (slI (smS y))[ik]? = some it) (his : it.1 = true) (hd : 4 ≤ d) :
    cX40_width D d v (jar h (jfr h 142 v) ik) h1 (pI D h1 (fun r h' => r = nI (stW E it.2.1 E.1) ∧ h' = h1) no) := by
  obtain ⟨d, rfl, he⟩ := dsucc (show 1 ≤ d by omega)
  have := w_widL (Q := pI D h1 (fun r h' => r = nI (stW E it.2.1 E.1) ∧ h' = h1) no) I hI kd eb sr hT hk his (d := d) (by omega) (endI fun _ _ => ⟨rfl, rfl⟩) E.1.length 0 (by omega)
  exact t_X40_width ⟨_, this⟩
/-- which column an order goes by, if it is named -/
def oNm (E : TEnv) (is : List Itm) (A : List Nod) (cs : List SCol) (x : Nat) : Ex (Option Nat) :=
  if (ndO (nat_ A x) == 0 && (ndV (nat_ A x)).1 == 20) = true then (if (1 ≤ (ndV (nat_ A x)).2.1 && (ndV (nat_ A x)).2.1 ≤ Int64.ofNat cs.length) = true then .ok (some ((ndV (nat_ A x)).2.1.toNatClampNeg - 1)) else xErr "42P10")
  else .ok ((if (ndO (nat_ A x) == 2 && (ndF (nat_ A x)).isNone) = true then cNamed is (ndS (nat_ A x)) else none).map (isum E is))
theorem i64_small {m : Nat} {n : Int64} (hm : m ≤ 16) (h1 : 1 ≤ n) (h2 : n ≤ Int64.ofNat m) : ∃ k, 1 ≤ k ∧ k ≤ m ∧ n = Int64.ofNat k := by
  have e1 := Int64.le_iff_toInt_le.mp h1
  have e2 := Int64.le_iff_toInt_le.mp h2
  rw [Int64.toInt_ofNat_of_lt (by omega)] at e2
  have e0 : (1 : Int64).toInt = 1 := by decide
  rw [e0] at e1
  refine ⟨n.toInt.toNat, by omega, by omega, ?_⟩
  apply Int64.toInt_inj.mp
  rw [Int64.toInt_ofNat_of_lt (by omega)]
  omega
theorem i64_tab : ∀ k, k < 17 → 1 ≤ k → (Int64.ofNat k).toInt32 - 1 = nI (k - 1) ∧ (Int64.ofNat k).toNatClampNeg = k := by decide +kernel
theorem i64_wid : ∀ k, k < 17 → Int32.toInt64 (nI k) = Int64.ofNat k := by decide +kernel
theorem isum_le (hs : k ≤ j) (l : List Itm) : isum E l k ≤ isum E l j := by
  unfold isum
  have : l.take k = (l.take j).take k := by rw [List.take_take, Nat.min_eq_left hs]
  rw [this]
  clear this hs
  generalize l.take j = l'
  induction l' generalizing k with
  | nil => simp
  | cons a l' ih =>
    cases k with
    | zero => simp
    | succ k =>
      rw [List.take_succ_cons, List.map_cons, List.map_cons, List.sum_cons, List.sum_cons]
      have := ih (k := k)
      omega
theorem w_namL {Q : JO → JH → Prop} {wn : Str} {r : Nat} (I : SkI D A0 ρ0 sc E pt L0 v gs gr X q h h1) (hI : JInv D h) (kd : SelR h ρ0 v y) (eb : EnT D h e T) (sr : SrT D h v e T y E.1) (hT : TbT T) (l12 : (slI (smS y)).length ≤ 12) (r0 : r ≠ 0) (rk : jkd h1 r = 24) (rn : StR h1 (jfr h1 118 r) wn) (hd : 5 ≤ d)
    (hQ : Q (.inl (some (vI (match cNamed (slI (smS y)) wn with | some k => nI (isum E (slI (smS y)) k) | none => -1)))) h1) :
    ∀ (m k : Nat), k + m = (slI (smS y)).length → (∀ (j : Nat) it, j < k → (slI (smS y))[j]? = some it → (!it.1 && it.2.1 == some wn) = false) → L_X40_named_75 D d Q (m + 1) v r (nI (isum E (slI (smS y)) k)) (nI k) h1
  | m, k, hm, nf => by
    obtain ⟨v0, vk⟩ := kd.vk
    obtain ⟨kf, sg, f8, z1, z2, sc0, f160⟩ := I.pp
    have kd1 : SelR h1 ρ0 v y := kd.sf sg
    obtain ⟨_, _, c1⟩ := kd1.itm
    refine ⟨v0, fun g => ?_, fun g => ?_⟩
    · rw [c1] at g
      have := (nI_leI (by omega) (by omega)).mp g
      have : cNamed (slI (smS y)) wn = none := by
        unfold cNamed
        rw [List.findIdx?_eq_none_iff]
        intro it hit
        obtain ⟨j, jl, hj⟩ := List.getElem_of_mem hit
        exact nf j it (by omega) (by rw [List.getElem?_eq_getElem jl, hj])
      rw [this] at hQ
      exact hQ
    · rw [c1] at g
      have kl : k < (slI (smS y)).length := Nat.lt_of_not_le fun z => g ((nI_leI (by omega) (by omega)).mpr z)
      obtain ⟨m', rfl⟩ : ∃ m', m = m' + 1 := ⟨m - 1, by omega⟩
      have hk : (slI (smS y))[k]? = some (slI (smS y))[k] := List.getElem?_eq_getElem kl
      have is1 : isum E (slI (smS y)) (k + 1) = isum E (slI (smS y)) k + iwd E (slI (smS y))[k] := by
        unfold isum
        rw [List.take_succ_eq_append_getElem kl, List.map_append, List.sum_append]
        rfl
      have fnd : (!(slI (smS y))[k].1 && (slI (smS y))[k].2.1 == some wn) = true → cNamed (slI (smS y)) wn = some k := fun z => by
        unfold cNamed
        rw [List.findIdx?_eq_some_iff_getElem]
        refine ⟨kl, z, fun j hj => ?_⟩
        rw [nf j _ hj (List.getElem?_eq_getElem (by omega))]
        decide
      have nxt : (!(slI (smS y))[k].1 && (slI (smS y))[k].2.1 == some wn) = false → L_X40_named_75 D d Q (m' + 1) v r (nI (isum E (slI (smS y)) (k + 1))) (nI (k + 1)) h1 := fun z => w_namL I hI kd eb sr hT l12 r0 rk rn hd hQ m' (k + 1) (by omega) fun j it hj hit => by
        by_cases jk : j < k
        · exact nf j it jk hit
        · have : j = k := by omega
          rw [this, hk] at hit
          cases hit
          exact z
      generalize (slI (smS y))[k] = it at hk is1 fnd nxt
      obtain ⟨i1, i2, i3, i4⟩ := I.itm kd hk
      have ix : ixn (nI k) = k := ixn_nI (by omega)
      have step : (!it.1 && it.2.1 == some wn) = false → W_X40_named_131 D d Q (L_X40_named_75 D d Q (m' + 1)) v r (nI (isum E (slI (smS y)) k)) (nI k) h1 := fun zf => by
        have nx := nxt zf
        refine ⟨v0, ?_⟩
        rw [i1, ix, i3]
        refine ⟨i2.1, by rw [i2.2.2]; exact jin_nI (by omega) (by decide), i4.1, fun g2 => ?_, fun g2 => ⟨by rw [i2.2.2]; exact jin_nI (by omega) (by decide), ?_⟩⟩
        · have hs : it.1 = false := by
            cases z : it.1 with
            | false => rfl
            | true => rw [i4.2.2.1, z] at g2; exact absurd g2 (by decide)
          have ew : iwd E it = 1 := by unfold iwd; rw [if_neg (by rw [hs]; decide)]
          rw [is1, ew] at nx
          show L_X40_named_75 D d Q (m' + 1) v r (nI (isum E (slI (smS y)) k) + 1) (nI k + 1) h1
          rw [nI_1, nI_1]
          exact nx
        · have hs : it.1 = true := by
            cases z : it.1 with
            | true => rfl
            | false => rw [i4.2.2.1, z] at g2; exact absurd rfl g2
          have ew : iwd E it = stW E it.2.1 E.1 := by unfold iwd; rw [if_pos hs]
          refine useI0 (w_wid I hI kd eb sr hT hk hs (by omega)) ?_
          rintro a h5 hI5 _ ⟨rfl, he5⟩
          have he5 := he5.symm
          subst he5
          rw [is1, ew] at nx
          show L_X40_named_75 D d Q (m' + 1) v r (nI (isum E (slI (smS y)) k) + nI (stW E it.2.1 E.1)) (nI k + 1) h1
          rw [nI_1, nI_add]
          exact nx
      rw [i1, ix, i3]
      refine ⟨i2.1, by rw [i2.2.2]; exact jin_nI (by omega) (by decide), i4.1, fun g2 => ?_, fun g2 => ⟨by rw [i2.2.2]; exact jin_nI (by omega) (by decide), ?_⟩⟩
      · have hs : it.1 = true := by
          cases z : it.1 with
          | true => rfl
          | false => rw [i4.2.2.1, z] at g2; exact absurd rfl g2
        exact step (by rw [hs]; rfl)
      · have hs : it.1 = false := by
          cases z : it.1 with
          | false => rfl
          | true => rw [i4.2.2.1, z] at g2; exact absurd g2 (by decide)
        have os := (i4.2.2.2.2 hs).2
        refine ⟨fun g3 => step ?_, fun g3 => ⟨by rw [i2.2.2]; exact jin_nI (by omega) (by decide), Or.inr rk, r0, ?_⟩⟩
        · have : it.2.1 = none := by
            cases hl : it.2.1 with
            | none => rfl
            | some w => rw [hl] at os; exact absurd g3 os.1
          rw [hs, this]
          rfl
        · cases hl : it.2.1 with
          | none => rw [hl] at os; exact absurd os g3
          | some w =>
            rw [hl] at os
            have os : StR h1 (jfr h1 164 (jar h (jfr h 142 v) k)) w := os
            refine JW.up (n := 2) (fun dd => useI0 (k_equals (d := dd) os rn) ?_) (by omega)
            rintro v3 h4 hI4 _ ⟨rfl, he4⟩
            have he4 := he4.symm
            subst he4
            by_cases ec : w = wn
            · rw [if_pos ec]
              refine ⟨fun z => absurd z (by decide), fun _ => ?_⟩
              rw [fnd (by rw [hs, hl, ec]; simp)] at hQ
              exact hQ
            · rw [if_neg ec]
              refine ⟨fun _ => step ?_, fun z => absurd rfl z⟩
              rw [hs, hl]
              simpa using ec
end
