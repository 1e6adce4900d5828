/-! the component: INSERT is checked: rows -/
section
variable {D : JD} {h h' h'' h0 h1 h2 : JH} {ρ : Nat → Nat} {A : List Nod} {E : TEnv} {q c r i v k j d e sc n B u arr tb : Nat} {y : Stm} {T : List Tab} {pt : List Nat} {ns : List Str} {xs ps : List Nat} {cs : List Col} {rs : List (List Nat)}
theorem cVals_eq {x p : Nat} {l : List Nat} : cVals A E cs (x :: l) (p :: ps) = (tType A E x >>= fun t => tFits t ((cs.getD p ([], 0, false, false)).2.1) >>= fun _ => cVals A E cs l ps) := by
  rw [cVals]
theorem cRows_eq {row : List Nat} {l : List (List Nat)} : cRows A E cs ps (row :: l) = (xMust (row.length == ps.length) "42601" >>= fun _ => cVals A E cs row ps >>= fun _ => cRows A E cs ps l) := by
  rw [cRows]
theorem cRows_len : ∀ {rs : List (List Nat)}, cRows A E cs ps rs = .ok () → ∀ row ∈ rs, row.length = ps.length
  | [], _, row, hr => absurd hr List.not_mem_nil
  | r :: l, e, row, hr => by
    rw [cRows_eq] at e
    by_cases c : (r.length == ps.length) = true
    · rw [show xMust (r.length == ps.length) "42601" = .ok () from by unfold xMust; rw [if_pos c], ok_bind] at e
      cases e2 : cVals A E cs r ps with
      | error z => rw [e2] at e; cases e
      | ok u =>
        rw [e2, ok_bind] at e
        rcases List.mem_cons.mp hr with z | z
        · rw [z]; simpa using c
        · exact cRows_len e row z
    · rw [show xMust (r.length == ps.length) "42601" = .error (sStr "42601") from by unfold xMust; rw [if_neg c]; rfl] at e
      cases e
/-- the values of a row are checked -/
theorem w_insV {Q : JO → JH → Prop} {K134 : Nat → Nat → Int32 → Int32 → JH → Prop} {tbv : Tab} {row : List Nat} {l0 : List Nat} (hA : NOK A) (ri : RI ρ A.length) (hn : (E.1.map (·.1)).Nodup) (hI : JInv D h) (tr : TreeR D h A ρ) (v0 : v ≠ 0) (e0 : e ≠ 0) (ea : jfr h 106 v = arr) (aA : AR h arr 148 10) (tR : TabR D h tb tbv) (ht : ∀ c ∈ tbv.2.1, TyOk c.2.1) (etb : jfr h 107 v = tb) (hsc : jfr h 23 e = sc) (s6 : jkd h sc = 6) (aR : AR h (jfr h 103 v) 146 20) (rl : r < 20) (aX : AR h (jar h (jfr h 103 v) r) 221 10) (xX : ExsR h ρ (jar h (jfr h 103 v) r) row) (lr : row.length = ps.length) (l10 : ps.length ≤ 10) (xl : ∀ x ∈ row, x < A.length ∧ HB A n x) (xl0 : ∀ x ∈ l0, x < A.length) (ho : ∀ (j x : Nat), row[j]? = some x → ∀ z ∈ l0 ++ row.take j, z < ndL (nat_ A x)) (hd : n + 20 ≤ d)
    (hQ : ∀ h1, JInv D h1 → cVals A E tbv.2.1 row ps = .ok () → IcS D A E ρ sc arr ps (l0 ++ row) tbv.2.1 h h1 → K134 v e (nI ps.length) (nI (r + 1)) h1)
    (hX : ∀ z h' c hm, JInv D h' → cVals A E tbv.2.1 row ps = .error c → KF chkK h hm → SF D h hm → (jsz hm = jsz h ∧ jus hm = jus h) → FlX hm h' z c → Q (.inr z) h') :
    ∀ (m k : Nat) (h1 : JH), k + m = ps.length → JInv D h1 → IcS D A E ρ sc arr ps (l0 ++ row.take k) tbv.2.1 h h1 → cVals A E tbv.2.1 row ps = cVals A E tbv.2.1 (row.drop k) (ps.drop k) → L_X23_check_166 D d Q K134 (m + 1) v e (nI ps.length) (nI r) (nI k) h1
  | m, k, h1, hm, hI1, S, eq => by
    have S0 := S
    obtain ⟨kf, sf, uf, sC, w5, hp, hl⟩ := S
    refine ⟨fun g => ?_, fun g => ⟨v0, ?_⟩⟩
    · have := (nI_leI (by omega) (by omega)).mp g
      rw [List.take_of_length_le (by omega)] at S0
      rw [List.drop_eq_nil_of_le (by omega)] at eq
      rw [nI_1]
      exact hQ h1 hI1 eq S0
    · have kl : k < ps.length := Nat.lt_of_not_le fun z => g ((nI_leI (by omega) (by omega)).mpr z)
      obtain ⟨m', rfl⟩ : ∃ m', m = m' + 1 := ⟨m - 1, by omega⟩
      have hx : row[k]? = some (row[k]'(by omega)) := List.getElem?_eq_getElem (by omega)
      have hpk : ps[k]? = some ps[k] := List.getElem?_eq_getElem kl
      rw [List.drop_eq_getElem_cons (by omega : k < row.length), List.drop_eq_getElem_cons kl, cVals_eq] at eq
      have htk : row.take (k + 1) = row.take k ++ [row[k]'(by omega)] := List.take_succ_eq_append_getElem (by omega)
      generalize row[k]'(by omega) = x at hx eq htk
      generalize ps[k] = p at hpk eq
      have w10 := tR.2.2.1.2.2.2.1
      have ixr : ixn (nI r) = r := ixn_nI (by omega)
      have ixk : ixn (nI k) = k := ixn_nI (by omega)
      have e3 : jfr h1 103 v = jfr h 103 v := uf.2.1 103 v (by decide)
      have ejx : jar h1 (jar h (jfr h 103 v) r) k = ρ x := by rw [uf.2.2.1]; exact xX _ _ hx
      have tr1 : TreeR D h1 A ρ := tr.sf sf hA hI
      have s61 : jkd h1 sc = 6 := (uf.1 sc).1.trans s6
      obtain ⟨xl1, xl2⟩ := xl x (List.mem_of_getElem? hx)
      obtain ⟨p1, p2⟩ := hp k p hpk
      rw [e3, ixr, uf.2.2.1 (jfr h 103 v) r, ixk, ejx, (uf.2.1 23 e (by decide)).trans hsc]
      refine ⟨aR.1, by rw [(uf.1 _).2, aR.2.2]; exact jin_nI (by omega) (by decide), aX.1, by rw [(uf.1 _).2, aX.2.2]; exact jin_nI (by omega) (by decide), e0, (tr1 x xl1).1, useCk1 (w_check hA ri hn (x + 1) x false _ d n (by omega) xl1 xl2 (by omega) tr1 sC w5) ?_ ?_⟩
      · rintro tv h4 hI4 ⟨ty, t1, rfl, t3, t4, t5, t6, t7⟩
        have kf4 := kf.tr (t5.kf tr1 hI1 s61)
        have sf4 := sf.tr (t5.sf hA hI1 tr1 s61) hI1
        have uf4 := uf.tr t5.uc
        have tR4 : TabR D h4 tb tbv := tR.kf kf4 hI ktb_chk
        have fr4 := uf4.2.1
        have ek4 : jai h4 arr k = nI p := ((t5.2.2.1 arr k).2.1).trans p1
        obtain ⟨q1, q2, q3, q4, q5⟩ := tR4.2.2.1
        have hcol : tbv.2.1[p]? = some tbv.2.1[p] := List.getElem?_eq_getElem p2
        have cr := q5 p _ hcol
        have eg : (tbv.2.1.getD p ([], 0, false, false)).2.1 = tbv.2.1[p].2.1 := by rw [List.getD_eq_getElem?_getD, hcol]; rfl
        have ety : tType A E x = .ok ty := t1
        rw [ety, ok_bind, eg] at eq
        refine ⟨v0, ?_⟩
        rw [fr4 107 v (by decide), etb, fr4 106 v (by decide), ea, ixk, ek4, ixn_nI (by omega)]
        refine ⟨tR4.1.1.1, aA.1, by rw [(uf4.1 arr).2, aA.2.2]; exact jin_nI (by omega) (by decide), q1, by rw [q3]; exact jin_nI (by omega) (by decide), cr.1, ?_⟩
        rw [cr.2.2.2.1]
        refine useV (w_tneed t3 (ht _ (List.getElem_mem p2)) (by omega)) ?_ ?_
        · rintro h5 hI5 _ ⟨f1, he5⟩
          have he5 := he5.symm
          subst he5
          rw [f1, ok_bind] at eq
          rw [nI_1]
          refine w_insV hA ri hn hI tr v0 e0 ea aA tR ht etb hsc s6 aR rl aX xX lr l10 xl xl0 ho hd hQ hX m' (k + 1) h4 (by omega) hI4 ⟨kf4, sf4, uf4, sC.ck t5 tr1.nd, by rw [t6]; exact w5, fun j z hjz => ?_, fun x' hx' => ?_⟩ eq
          · rw [(t5.2.2.1 arr j).2.1]
            exact hp j z hjz
          · rw [htk, ← List.append_assoc] at hx'
            rcases List.mem_append.mp hx' with g1 | g1
            · have xl' : x' < A.length := by
                rcases List.mem_append.mp g1 with g2 | g2
                · exact xl0 x' g2
                · exact (xl x' (List.mem_of_mem_take g2)).1
              exact (hl x' g1).ck hA ri t5 xl' (Or.inr (ho k x hx x' g1))
            · rw [List.mem_singleton.mp g1]
              exact PlT.all hA _ _ (Nat.lt_succ_self _) xl1 t7
        · rintro z h5 hI5 _ ⟨f1, f2⟩
          rw [f1] at eq
          exact hX z h5 _ h4 hI5 eq kf4 sf4 uf4.2.2.2.2 (f2.fx (by decide +kernel))
      · rintro z h4 hI4 ⟨c, hm', c1', c2', c3'⟩
        have ety : tType A E x = .error c := c1'
        rw [ety] at eq
        exact hX z h4 c hm' hI4 eq (kf.tr (c2'.kf tr1 hI1 s61)) (sf.tr (c2'.sf hA hI1 tr1 s61) hI1) ⟨c2'.2.1.1.trans uf.2.2.2.2.1, c2'.2.1.2.trans uf.2.2.2.2.2⟩ (c3'.fx (nb_type c ety))
/-- the rows are checked -/
theorem w_insR {Q : JO → JH → Prop} {tbv : Tab} (hA : NOK A) (ri : RI ρ A.length) (hn : (E.1.map (·.1)).Nodup) (hI : JInv D h) (tr : TreeR D h A ρ) (v0 : v ≠ 0) (e0 : e ≠ 0) (ea : jfr h 106 v = arr) (aA : AR h arr 148 10) (tR : TabR D h tb tbv) (ht : ∀ c ∈ tbv.2.1, TyOk c.2.1) (etb : jfr h 107 v = tb) (hsc : jfr h 23 e = sc) (s6 : jkd h sc = 6) (aR : AR h (jfr h 103 v) 146 20) (aW : AR h (jfr h 104 v) 147 20) (c1 : jfi h 105 v = nI rs.length) (c2 : rs.length ≤ 20) (rw1 : ∀ i row, rs[i]? = some row → AR h (jar h (jfr h 103 v) i) 221 10 ∧ ExsR h ρ (jar h (jfr h 103 v) i) row ∧ jai h (jfr h 104 v) i = nI row.length ∧ row.length ≤ 10) (l10 : ps.length ≤ 10) (xl : ∀ row ∈ rs, ∀ x ∈ row, x < A.length ∧ HB A n x) (ho : ∀ l x l', rs.flatten = l ++ x :: l' → ∀ z ∈ l, z < ndL (nat_ A x)) (hd : n + 20 ≤ d)
    (hQ : ∀ h1, JInv D h1 → cRows A E tbv.2.1 ps rs = .ok () → IcS D A E ρ sc arr ps rs.flatten tbv.2.1 h h1 → Q (.inl none) h1)
    (hX : ∀ z h' c hm, JInv D h' → cRows A E tbv.2.1 ps rs = .error c → KF chkK h hm → SF D h hm → (jsz hm = jsz h ∧ jus hm = jus h) → FlX hm h' z c → Q (.inr z) h') :
    ∀ (m r : Nat) (h1 : JH), r + m = rs.length → JInv D h1 → IcS D A E ρ sc arr ps (rs.take r).flatten tbv.2.1 h h1 → cRows A E tbv.2.1 ps rs = cRows A E tbv.2.1 ps (rs.drop r) → L_X23_check_134 D d Q (m + 1) v e (nI ps.length) (nI r) h1
  | m, r, h1, hm, hI1, S, eq => by
    have S0 := S
    obtain ⟨kf, sf, uf, sC, w5, hp, hl⟩ := S
    have eC : jfi h1 105 v = nI rs.length := (uf.2.2.2.1 105 v (by decide) (by decide) (by decide)).trans c1
    refine ⟨v0, fun g => ?_, fun g => ?_⟩
    · rw [eC] at g
      have := (nI_leI (by omega) (by omega)).mp g
      rw [List.take_of_length_le (by omega)] at S0
      rw [List.drop_eq_nil_of_le (by omega)] at eq
      exact hQ h1 hI1 eq S0
    · rw [eC] at g
      have kl : r < rs.length := Nat.lt_of_not_le fun z => g ((nI_leI (by omega) (by omega)).mpr z)
      obtain ⟨m', rfl⟩ : ∃ m', m = m' + 1 := ⟨m - 1, by omega⟩
      have hx : rs[r]? = some rs[r] := List.getElem?_eq_getElem kl
      have hmem : rs[r] ∈ rs := List.getElem_mem kl
      have hsp : rs.flatten = (rs.take r).flatten ++ (rs[r] ++ (rs.drop (r + 1)).flatten) := by
        conv => lhs; rw [← List.take_append_drop r rs, List.flatten_append, List.drop_eq_getElem_cons kl, List.flatten_cons]
      have htk : (rs.take (r + 1)).flatten = (rs.take r).flatten ++ rs[r] := by rw [List.take_succ_eq_append_getElem kl, List.flatten_append, List.flatten_singleton]
      rw [List.drop_eq_getElem_cons kl, cRows_eq] at eq
      generalize rs[r] = row at hx hmem hsp htk eq
      obtain ⟨r1, r2, r3, r4⟩ := rw1 r row hx
      have ixr : ixn (nI r) = r := ixn_nI (by omega)
      have e4 : jfr h1 104 v = jfr h 104 v := uf.2.1 104 v (by decide)
      have ew : jai h1 (jfr h 104 v) r = nI row.length := by
        rw [((sf.2.1 (jfr h 104 v) (by rw [aW.2.1]; decide) (by rw [aW.2.1]; rfl)).2.2.1 (by rw [aW.2.1]; rfl) r).1]
        exact r3
      rw [e4, ixr, ew]
      refine ⟨aW.1, by rw [(uf.1 _).2, aW.2.2]; exact jin_nI (by omega) (by decide), fun g0 => ?_, fun g0 => ?_⟩
      · have lr : row.length = ps.length := (nI_eq (by omega) (by omega)).mp g0
        rw [show xMust (row.length == ps.length) "42601" = .ok () from by unfold xMust; rw [if_pos (by rw [lr]; exact beq_self_eq_true _)], ok_bind] at eq
        refine ⟨ps.length + 1, w_insV (row := row) (l0 := (rs.take r).flatten) hA ri hn hI tr v0 e0 ea aA tR ht etb hsc s6 aR (by omega) r1 r2 lr l10 (xl row hmem) (fun x hx' => ?_) (fun j x hjx z hz => ?_) hd (fun h2 hI2 f S2 => ?_) (fun z h' c hm hI' f k1 k2 k4 k3 => ?_) ps.length 0 h1 (by omega) hI1 (by rw [List.take_zero, List.append_nil]; exact S0) (by rw [List.drop_zero, List.drop_zero])⟩
        · obtain ⟨l, hl1, hl2⟩ := List.mem_flatten.mp hx'
          exact (xl l (List.mem_of_mem_take hl1) x hl2).1
        · obtain ⟨jl, je⟩ := List.getElem?_eq_some_iff.mp hjx
          refine ho ((rs.take r).flatten ++ row.take j) x (row.drop (j + 1) ++ (rs.drop (r + 1)).flatten) ?_ z hz
          rw [hsp, List.append_assoc]
          congr 1
          rw [← List.cons_append, ← je, ← List.drop_eq_getElem_cons jl, ← List.append_assoc, List.take_append_drop]
        · rw [f, ok_bind] at eq
          exact w_insR hA ri hn hI tr v0 e0 ea aA tR ht etb hsc s6 aR aW c1 c2 rw1 l10 xl ho hd hQ hX m' (r + 1) h2 (by omega) hI2 (by rw [htk]; exact S2) eq
        · rw [f] at eq
          exact hX z h' c hm hI' eq k1 k2 k4 k3
      · have lr : (row.length == ps.length) = false := by simpa using fun z => g0 (by rw [z])
        rw [show xMust (row.length == ps.length) "42601" = .error (sStr "42601") from by unfold xMust; rw [if_neg (by rw [lr]; decide)]; rfl] at eq
        refine w_faultP (w := "42601") ⟨by decide, by decide +kernel⟩ hI1 (by omega) fun z h' hI' f1 f2 => ?_
        exact hX z h' _ h1 hI' eq kf sf uf.2.2.2.2 ⟨by unfold fpl; rw [if_pos rfl]; exact f1, f2⟩
/-- INSERT is checked -/
theorem w_insCk (hA : NOK (smA y)) (ri : RI ρ (smA y).length) (tr : TreeR D h (smA y) ρ) (eb : EnT D h e T) (hsc : jfr h 23 e = sc) (sC : ScC D h sc ([], pt, false)) (w5 : jfi h 52 sc = 0) (hT : TbT T) (kd : InsR h ρ v y) (y0 : smK y = 2) (xl : ∀ r ∈ smR y, ∀ x ∈ r, x < (smA y).length ∧ HB (smA y) n x) (ord : OrA (smA y) (smX y)) (hd : n + 21 ≤ d) :
    cX23_check D d v e h (pV D h (fun h' => ∃ ps k, cOther T pt y = .ok ps ∧ KF chkK h h' ∧ SF D h h' ∧ UcF (wfr h 107 v (tba h (jfr h 20 e) k)) h' ∧ tbNeed T (smT y) = .ok k ∧ k < T.length ∧ jfr h' 107 v = tba h' (jfr h' 20 e) k ∧ ScC D h' sc ([], pt, false) ∧ ps.length ≤ 10 ∧ (∀ row ∈ smR y, row.length = ps.length) ∧ (∀ (j z : Nat), ps[j]? = some z → jai h' (jfr h' 106 v) j = nI z ∧ z < (tbGet T k).2.1.length) ∧ ∀ r ∈ smR y, ∀ x ∈ r, PlA (smA y) ([], pt, false) h' ρ x) (fun z h' => ∃ c hm, cOther T pt y = .error c ∧ KF chkK h hm ∧ SF D h hm ∧ (jsz hm = jsz h ∧ jus hm = jus h) ∧ FlX hm h' z c)) := by
  obtain ⟨d, rfl, he⟩ := dsucc (show 1 ≤ d by omega)
  have eo : cOther T pt y = (tbNeed T (smT y) >>= fun k => icP (tbGet T k).2.1 (smN y) 0 [] >>= fun ps => cRows (smA y) ([], pt, false) (tbGet T k).2.1 ps (smR y) >>= fun _ => .ok ps) := by
    unfold cOther
    rw [y0]
    rfl
  obtain ⟨N, ⟨_, v0, vk⟩, st, ⟨_, n1, n2⟩, ⟨c1, c2⟩, ⟨_, aR⟩, ⟨_, aW⟩, ⟨c3, c4⟩, aA, rws⟩ := kd
  refine JW.inv fun hI => t_X23_check ⟨eb.1.1, v0, eb.2.1, useR (w_needed eb.2.2 st (by omega)) ?_ ?_⟩
  · rintro t h1 hI1 _ ⟨he1, k, e1, kl, e2, rfl⟩
    have he1 := he1.symm
    subst he1
    rintro h3 rfl
    have l4 := eb.2.2.2.1.2
    have tg : tbGet T k = T[k] := by unfold tbGet; rw [List.getD_eq_getElem?_getD, List.getElem?_eq_getElem kl]; rfl
    have tR0 : TabR D h (tba h (jfr h 20 e) k) (tbGet T k) := by
      rw [tg]
      exact eb.2.2.2.2 k _ (List.getElem?_eq_getElem kl)
    have hI3 : JInv D (wfr h 107 v (tba h (jfr h 20 e) k)) := hI.wfr (hI.2.1 _ (by rw [vk]; rfl)) (hI.lt (by rw [vk]; decide)) (Or.inr (by rw [tR0.1.1.2]; rfl))
    have kf : KF chkK h (wfr h 107 v (tba h (jfr h 20 e) k)) := KF.w107 vk
    have sf : SF D h (wfr h 107 v (tba h (jfr h 20 e) k)) := SF.w107 vk
    have ef : ∀ F q, F ≠ 107 → jfr (wfr h 107 v (tba h (jfr h 20 e) k)) F q = jfr h F q := fun F q hF => by rw [jfr_wfr, if_neg (fun z => hF z.1)]
    have e7 : jfr (wfr h 107 v (tba h (jfr h 20 e) k)) 107 v = tba h (jfr h 20 e) k := by rw [jfr_wfr, if_pos ⟨rfl, rfl⟩]
    have tR : TabR D (wfr h 107 v (tba h (jfr h 20 e) k)) (tba h (jfr h 20 e) k) (tbGet T k) := tR0.kf kf hI ktb_chk
    have tr1 := tr.sf sf hA hI
    have sC1 := sC.w107 (u := tba h (jfr h 20 e) k) vk
    have s6 := sC.1.2
    have ht : ∀ c ∈ (tbGet T k).2.1, TyOk c.2.1 := fun c hc => by rw [tg] at hc; exact hT _ (List.getElem_mem kl) c hc
    have w10 := tR0.2.2.1.2.2.2.1
    rw [e1, ok_bind] at eo
    have fin : ∀ {h2 : JH}, KF chkK (wfr h 107 v (tba h (jfr h 20 e) k)) h2 → UcF (wfr h 107 v (tba h (jfr h 20 e) k)) h2 → jfr h2 107 v = tba h2 (jfr h2 20 e) k := fun {h2} kf2 uf2 => by
      have fr := uf2.2.1
      unfold tba
      rw [fr 107 v (by decide), e7, fr 20 e (by decide), fr 40 _ (by decide), ef 20 e (by decide), ef 40 _ (by decide)]
      have s2 := (eb.2.2.1.kf (kf.tr kf2) hI ktb_chk).2.2
      rw [s2.ar]
      rfl
    have main : ∀ nn, nn = (if (smN y).isEmpty = true then (tbGet T k).2.1.length else (smN y).length) → W_X23_check_36 D d (pV D h (fun h' => ∃ ps k, cOther T pt y = .ok ps ∧ KF chkK h h' ∧ SF D h h' ∧ UcF (wfr h 107 v (tba h (jfr h 20 e) k)) h' ∧ tbNeed T (smT y) = .ok k ∧ k < T.length ∧ jfr h' 107 v = tba h' (jfr h' 20 e) k ∧ ScC D h' sc ([], pt, false) ∧ ps.length ≤ 10 ∧ (∀ row ∈ smR y, row.length = ps.length) ∧ (∀ (j z : Nat), ps[j]? = some z → jai h' (jfr h' 106 v) j = nI z ∧ z < (tbGet T k).2.1.length) ∧ ∀ r ∈ smR y, ∀ x ∈ r, PlA (smA y) ([], pt, false) h' ρ x) (fun z h' => ∃ c hm, cOther T pt y = .error c ∧ KF chkK h hm ∧ SF D h hm ∧ (jsz hm = jsz h ∧ jus hm = jus h) ∧ FlX hm h' z c)) v e (nI nn) (wfr h 107 v (tba h (jfr h 20 e) k)) := by
      intro nn enn
      have nn10 : nn ≤ 10 := by rw [enn]; split <;> omega
      refine ⟨nn + 1, w_insP (A := smA y) (E := ([], pt, false)) (ρ := ρ) (sc := sc) (arr := jfr h 106 v) (tb := tba h (jfr h 20 e) k) (tbv := tbGet T k) (ns := smN y) v0 hI3 ?_ ?_ c1 c2 (ef 106 v (by decide)) aA tR ht e7 enn (by omega) (fun ps h2 hI2 f1 f2 S2 => ?_) (fun z h' c hm hI' f1 k1 k2 k4 k3 => ?_) nn [] _ (by simp) hI3 ⟨KF.rf, SF.rf, UcF.rf, sC1, w5, fun j z hz => (by simp at hz), fun x hx => absurd hx List.not_mem_nil⟩ (fun _ => rfl) rfl⟩
      · rw [ef 101 v (by decide)]; exact n1
      · rw [ef 101 v (by decide)]
        exact fun i w hw => sf.2.2.2.2.2.2.1 _ _ (n2 i w hw)
      · rw [f1, ok_bind] at eo
        rw [← f2]
        refine ⟨(smR y).length + 1, w_insR (A := smA y) (E := ([], pt, false)) (ρ := ρ) (sc := sc) (arr := jfr h 106 v) (tb := tba h (jfr h 20 e) k) (tbv := tbGet T k) (h := wfr h 107 v (tba h (jfr h 20 e) k)) (rs := smR y) (ps := ps) (n := n) hA ri (by simp) hI3 tr1 v0 eb.1.1 (ef 106 v (by decide)) aA tR ht e7 ((ef 23 e (by decide)).trans hsc) s6 ?_ ?_ c3 c4 (fun i row hi => ?_) (by omega) xl (fun l x l' hl z hz => ?_) (by omega) (fun h3 hI3' g1 S3 => ?_) (fun z h' c hm hI' g1 k1 k2 k4 k3 => ?_) (smR y).length 0 h2 (by omega) hI2 (by rw [List.take_zero]; exact S2) (by rw [List.drop_zero])⟩
        · rw [ef 103 v (by decide)]; exact aR
        · rw [ef 104 v (by decide)]; exact aW
        · obtain ⟨⟨b1, b2, b3⟩, b4, b5⟩ := rws.1 i row hi
          rw [ef 103 v (by decide), ef 104 v (by decide)]
          exact ⟨b2, b3, b4, b5⟩
        · obtain ⟨j, jl, hj⟩ := List.getElem_of_mem hz
          refine ord.ord j l.length z x jl ?_ ?_
          · unfold smX
            rw [hl, List.append_assoc, List.getElem?_append, if_pos jl, List.getElem?_eq_getElem jl, hj]
          · unfold smX
            rw [hl, List.append_assoc, List.getElem?_append, if_neg (Nat.lt_irrefl _), Nat.sub_self]
            rfl
        · obtain ⟨kf3, sf3, uf3, sC3, w53, hp3, hl3⟩ := S3
          refine endV fun _ _ => ⟨ps, k, by rw [eo, g1]; rfl, kf.tr kf3, sf.tr sf3 hI3, uf3, e1, kl, fin kf3 uf3, sC3, by omega, cRows_len g1, fun j z hz => ?_, fun r hr x hx => hl3 x (List.mem_flatten.mpr ⟨r, hr, hx⟩)⟩
          rw [uf3.2.1 106 v (by decide), ef 106 v (by decide)]
          exact hp3 j z hz
        · exact fun _ _ => ⟨c, hm, by rw [eo, g1]; rfl, kf.tr k1, sf.tr k2 hI3, k4, k3⟩
      · exact fun _ _ => ⟨c, hm, by rw [eo, f1]; rfl, kf.tr k1, sf.tr k2 hI3, k4, k3⟩
    refine ⟨fun g => ?_, fun g => ?_⟩
    · rw [show jfi (wfr h 107 v (tba h (jfr h 20 e) k)) 102 v = nI (smN y).length from c1] at g ⊢
      refine main _ ?_
      rw [if_neg]
      intro z
      rw [List.isEmpty_iff] at z
      rw [z] at g
      exact g rfl
    · rw [show jfi (wfr h 107 v (tba h (jfr h 20 e) k)) 102 v = nI (smN y).length from c1] at g
      rw [e7, show jfi (wfr h 107 v (tba h (jfr h 20 e) k)) 44 (tba h (jfr h 20 e) k) = nI (tbGet T k).2.1.length from tR0.2.2.2.1]
      refine ⟨tR0.1.1.1, main _ ?_⟩
      have z := (nI_eq (by omega) (by omega)).mp (show nI (smN y).length = nI 0 from g)
      rw [if_pos]
      rw [List.isEmpty_iff]
      exact List.length_eq_zero_iff.mp z
  · rintro z h1 hI1 _ ⟨e1, f⟩
    exact fun _ _ => ⟨_, h, by rw [eo, e1]; rfl, KF.rf, SF.rf, ⟨rfl, rfl⟩, f.fx (by decide +kernel)⟩
end
