/-! the component: UPDATE is checked -/
section
variable {D : JD} {h h' h'' h0 h1 h2 : JH} {ρ : Nat → Nat} {A : List Nod} {E : TEnv} {q c r i v k j d e sc n B u : Nat} {y : Stm} {T : List Tab} {pt : List Nat} {ns : List Str} {xs : List Nat} {cs : List Col}
/-- what a check leaves as it was, told exactly -/
def UcF (h h1 : JH) : Prop := (∀ q, jkd h1 q = jkd h q ∧ jln h1 q = jln h q) ∧ (∀ F q, F ≠ 109 → jfr h1 F q = jfr h F q) ∧ (∀ q i, jar h1 q i = jar h q i) ∧ (∀ F q, F ≠ 119 → F ≠ 120 → F ≠ 52 → jfi h1 F q = jfi h F q) ∧ jsz h1 = jsz h ∧ jus h1 = jus h
theorem UcF.rf : UcF h h := ⟨fun _ => ⟨rfl, rfl⟩, fun _ _ _ => rfl, fun _ _ => rfl, fun _ _ _ _ _ => rfl, rfl, rfl⟩
theorem UcF.tr (a : UcF h h1) (b : UcF h1 h2) : UcF h h2 := ⟨fun q => ⟨(b.1 q).1.trans (a.1 q).1, (b.1 q).2.trans (a.1 q).2⟩, fun F q g => (b.2.1 F q g).trans (a.2.1 F q g), fun q i => (b.2.2.1 q i).trans (a.2.2.1 q i), fun F q g1 g2 g3 => (b.2.2.2.1 F q g1 g2 g3).trans (a.2.2.2.1 F q g1 g2 g3), b.2.2.2.2.1.trans a.2.2.2.2.1, b.2.2.2.2.2.trans a.2.2.2.2.2⟩
theorem CkF.uc {M : Nat → Prop} (a : CkF sc M h h1) : UcF h h1 := ⟨a.1, fun F q g => a.2.2.2.2.1 F q fun z => absurd z g, fun q i => (a.2.2.1 q i).1, fun F q g1 g2 g3 => a.2.2.2.2.2 F q (fun z => absurd z g3) (fun z => by omega), a.2.1.1, a.2.1.2⟩
/-- while the values of UPDATE are checked -/
def UcS (D : JD) (A : List Nod) (E : TEnv) (ρ : Nat → Nat) (sc arr : Nat) (xs ps : List Nat) (cs : List Col) (h h1 : JH) : Prop :=
  KF chkK h h1 ∧ SF D h h1 ∧ UcF h h1 ∧ ScC D h1 sc E ∧ jfi h1 52 sc = 0 ∧ (∀ (j z : Nat), ps[j]? = some z → jai h1 arr j = nI z ∧ z < cs.length) ∧ ∀ (j x : Nat), j < ps.length → xs[j]? = some x → PlA A E h1 ρ x
theorem cSets_eq {l : List (Str × Nat)} {ps : List Nat} (s : Str × Nat) : cSets A E cs (s :: l) ps = (match tColOf cs s.1 with
    | none => xErr "42703"
    | some c => if ps.contains c = true then xErr "42701" else (tType A E s.2 >>= fun t => tFits t ((cs.getD c ([], 0, false, false)).2.1) >>= fun _ => cSets A E cs l (ps ++ [c]))) := by
  rw [cSets]
  rfl
theorem w_updK {tbv : Tab} {tb arr : Nat} {t : Str} {Q : JO → JH → Prop} (hA : NOK A) (ri : RI ρ A.length) (hn : (E.1.map (·.1)).Nodup) (hI : JInv D h) (tr : TreeR D h A ρ) (us : UpS 0 h ρ v t ns xs) (ea : jfr h 134 v = arr) (tR : TabR D h tb tbv) (ht : ∀ c ∈ tbv.2.1, TyOk c.2.1) (etb : jfr h 138 (jfr h 130 v) = tb) (hsc : jfr h 23 e = sc) (s6 : jkd h sc = 6) (e0 : e ≠ 0) (xl : ∀ x ∈ xs, x < A.length ∧ HB A n x) (ho : ∀ (j k x z : Nat), j < k → xs[j]? = some x → xs[k]? = some z → x < ndL (nat_ A z)) (hd : n + 20 ≤ d)
    (hQ : ∀ ps h1, JInv D h1 → cSets A E tbv.2.1 (ns.zip xs) [] = .ok ps → ps.length = ns.length → UcS D A E ρ sc arr xs ps tbv.2.1 h h1 → cX20_truth D d (jfr h1 131 v) (jfr h1 23 e) h1 (pV D h1 (fun h4 => Q (.inl none) h4) (jth Q)))
    (hX : ∀ z h' c hm, JInv D h' → cSets A E tbv.2.1 (ns.zip xs) [] = .error c → KF chkK h hm → SF D h hm → (jsz hm = jsz h ∧ jus hm = jus h) → Flt hm h' z c → Q (.inr z) h') :
    ∀ (m : Nat) (ps : List Nat) (h1 : JH), ps.length + m = ns.length → JInv D h1 → UcS D A E ρ sc arr xs ps tbv.2.1 h h1 → cSets A E tbv.2.1 (ns.zip xs) [] = cSets A E tbv.2.1 ((ns.zip xs).drop ps.length) ps → L_X37_check_7 D d Q (m + 1) v e (nI ps.length) h1
  | m, ps, h1, hm, hI1, S, eq => by
    have S0 := S
    obtain ⟨kf, sf, uf, sC, w5, hp, hl⟩ := S
    obtain ⟨⟨_, v0, vk⟩, ⟨r1, r2, r3, r4, r5⟩, ⟨_, n1, n2⟩, ⟨_, x1, x2⟩, a1, c1, c2, c3⟩ := us
    have fr := uf.2.1
    have eN : jfr h1 132 v = jfr h 132 v := fr 132 v (by decide)
    have eX : jfr h1 133 v = jfr h 133 v := fr 133 v (by decide)
    have eA : jfr h1 134 v = arr := (fr 134 v (by decide)).trans ea
    have eS : jfr h1 130 v = jfr h 130 v := fr 130 v (by decide)
    have eT : jfr h1 138 (jfr h 130 v) = tb := (fr 138 _ (by decide)).trans etb
    have eC : jfi h1 135 v = nI ns.length := (uf.2.2.2.1 135 v (by decide) (by decide) (by decide)).trans c1
    have tR1 : TabR D h1 tb tbv := tR.kf kf hI ktb_chk
    have tr1 : TreeR D h1 A ρ := tr.sf sf hA hI
    have s61 : jkd h1 sc = 6 := (uf.1 sc).1.trans s6
    have aA : AR h arr 151 10 := by rw [← ea]; exact a1
    have aL : jln h1 arr = 10 := (uf.1 arr).2.trans aA.2.2
    have aK : jkd h1 arr = 151 := (uf.1 arr).1.trans aA.2.1
    have w10 := tR.2.2.1.2.2.2.1
    refine ⟨v0, fun g => ⟨e0, ?_⟩, fun g => ?_⟩
    · rw [eC] at g
      have g := (nI_leI (by omega) (by omega)).mp g
      rw [List.drop_eq_nil_of_le (by rw [List.length_zip]; omega)] at eq
      have eq : cSets A E tbv.2.1 (ns.zip xs) [] = .ok ps := eq
      exact hQ ps h1 hI1 eq (by omega) S0
    · rw [eC] at g
      have kl : ps.length < ns.length := Nat.lt_of_not_le fun z => g ((nI_leI (by omega) (by omega)).mpr z)
      obtain ⟨m', rfl⟩ : ∃ m', m = m' + 1 := ⟨m - 1, by omega⟩
      have hnm : ns[ps.length]? = some (ns[ps.length]) := List.getElem?_eq_getElem kl
      have hx : xs[ps.length]? = some (xs[ps.length]'(by omega)) := List.getElem?_eq_getElem (by omega)
      have hz : (ns.zip xs)[ps.length]? = some (ns[ps.length], xs[ps.length]'(by omega)) := by rw [List.getElem?_zip_eq_some]; exact ⟨hnm, hx⟩
      obtain ⟨zl, ze⟩ := List.getElem?_eq_some_iff.mp hz
      rw [List.drop_eq_getElem_cons zl, ze, cSets_eq] at eq
      generalize ns[ps.length] = nm at hnm eq
      generalize xs[ps.length]'(by omega) = x at hx eq
      dsimp only at eq
      have ix : ixn (nI ps.length) = ps.length := ixn_nI (by omega)
      have st : StR h1 (jar h1 (jfr h 132 v) ps.length) nm := by
        rw [uf.2.2.1]
        exact sf.2.2.2.2.2.2.1 _ _ (n2 _ _ hnm)
      rw [eS, eN, ix]
      refine ⟨r2, n1.1, by rw [(uf.1 _).2, n1.2.2]; exact jin_nI (by omega) (by decide), ?_⟩
      rw [eT]
      refine ⟨tR1.1.1.1, useI0 (w_tcol (tR1.tabC ht) st (by omega)) ?_⟩
      rintro xi h2 hI2 _ ⟨rfl, he2⟩
      have he2 := he2.symm
      subst he2
      rw [eA]
      refine ⟨aA.1, by rw [aL]; exact jin_nI (by omega) (by decide), ?_⟩
      rintro h3 rfl
      have hr : wkA (jkd h1 arr) = true := by rw [aK]; rfl
      have eA3 : jfr (wai h1 arr ps.length (tcI tbv.2.1 nm)) 134 v = arr := eA
      rw [eA3]
      have ei : jai (wai h1 arr ps.length (tcI tbv.2.1 nm)) arr ps.length = tcI tbv.2.1 nm := by rw [jai_wai, if_pos ⟨rfl, rfl⟩]
      have hI3 : JInv D (wai h1 arr ps.length (tcI tbv.2.1 nm)) := hI1.wai (hI1.2.1 arr (by rw [aK]; rfl)) (hI1.lt (by rw [aK]; decide))
      have kf3 : KF chkK h1 (wai h1 arr ps.length (tcI tbv.2.1 nm)) := KF.pai hr
      have sf3 : SF D h1 (wai h1 arr ps.length (tcI tbv.2.1 nm)) := SF.pai hr
      rw [ei]
      refine ⟨aA.1, by show jin _ (jln h1 arr); rw [aL]; exact jin_nI (by omega) (by decide), fun g0 => ?_, fun g0 => ?_⟩
      · cases hc : tColOf tbv.2.1 nm with
        | none =>
          have : tcI tbv.2.1 nm = -1 := by unfold tcI; rw [hc]
          rw [this] at g0
          exact absurd g0 (by decide)
        | some p =>
          have pl := tColOf_lt hc
          have et : tcI tbv.2.1 nm = nI p := by unfold tcI; rw [hc]
          rw [hc] at eq
          dsimp only at eq
          rw [et] at hI3 kf3 sf3 eA3 ⊢
          have hp3 : ∀ (j z : Nat), (ps ++ [p])[j]? = some z → jai (wai h1 arr ps.length (nI p)) arr j = nI z ∧ z < tbv.2.1.length := fun j z hjz => by
            rw [jai_wai]
            rw [List.getElem?_append] at hjz
            by_cases jl : j < ps.length
            · rw [if_pos jl] at hjz
              rw [if_neg (fun q => by omega)]
              exact hp j z hjz
            · rw [if_neg jl] at hjz
              have j0 : j - ps.length = 0 := by
                have := (List.getElem?_eq_some_iff.mp hjz).1
                simp at this
                omega
              rw [j0] at hjz
              cases hjz
              rw [if_pos ⟨rfl, by omega⟩]
              exact ⟨rfl, pl⟩
          refine ⟨ps.length + 1, w_updJ (d := d) v0 eA3 aA.1 aL (by omega) rfl (fun j z hjz => ⟨(hp3 j z hjz).1, by have := (hp3 j z hjz).2; omega⟩) (by omega) (fun b => ?_) (fun z h' hI' b f => ?_) ps.length 0 (by omega) (by rw [List.drop_zero])⟩
          · rw [if_neg (by rw [b]; decide)] at eq
            obtain ⟨xl1, xl2⟩ := xl x (List.mem_of_getElem? hx)
            have tr3 := tr1.sf sf3 hA hI1
            have uf3 : UcF h1 (wai h1 arr ps.length (nI p)) := ⟨fun _ => ⟨rfl, rfl⟩, fun _ _ _ => rfl, fun _ _ => rfl, fun _ _ _ _ _ => rfl, rfl, rfl⟩
            have ejx : jar (wai h1 arr ps.length (nI p)) (jfr (wai h1 arr ps.length (nI p)) 133 v) ps.length = ρ x := by
              show jar h1 (jfr h1 133 v) ps.length = ρ x
              rw [eX, uf.2.2.1]
              exact x2 _ _ hx
            refine ⟨fun _ => ⟨v0, ?_⟩, fun g => absurd (nI_le (Nat.le_refl _) (by omega)) g⟩
            rw [ix, ejx]
            have e23 : jfr (wai h1 arr ps.length (nI p)) 23 e = sc := (fr 23 e (by decide)).trans hsc
            rw [e23]
            refine ⟨by show jfr h1 133 v ≠ 0; rw [eX]; exact x1.1, by show jin _ (jln h1 (jfr h1 133 v)); rw [eX, (uf.1 _).2, x1.2.2]; exact jin_nI (by omega) (by decide), e0, (tr3 x xl1).1, useCk1 (w_check hA ri hn (x + 1) x false _ d n (by omega) xl1 xl2 (by omega) tr3 (sC.pai hr) w5) ?_ ?_⟩
            · rintro tv h4 hI4 ⟨ty, t1, rfl, t3, t4, t5, t6, t7⟩
              have kf4 := (kf.tr kf3).tr (t5.kf tr3 hI3 s61)
              have sf4 := (sf.tr sf3 hI1).tr (t5.sf hA hI3 tr3 s61) hI3
              have uf4 := (uf.tr uf3).tr t5.uc
              have tR4 : TabR D h4 tb tbv := tR.kf kf4 hI ktb_chk
              have fr4 := uf4.2.1
              have ej4 : ∀ j, jai h4 arr j = jai (wai h1 arr ps.length (nI p)) arr j := fun j => (t5.2.2.1 arr j).2.1
              have ek4 : jai h4 arr ps.length = nI p := by rw [ej4, jai_wai, if_pos ⟨rfl, rfl⟩]
              obtain ⟨q1, q2, q3, q4, q5⟩ := tR4.2.2.1
              have hcol : tbv.2.1[p]? = some tbv.2.1[p] := List.getElem?_eq_getElem pl
              have cr := q5 p _ hcol
              have eg : (tbv.2.1.getD p ([], 0, false, false)).2.1 = tbv.2.1[p].2.1 := by rw [List.getD_eq_getElem?_getD, hcol]; rfl
              have ety : tType A E x = .ok ty := t1
              rw [ety, ok_bind, eg] at eq
              refine ⟨v0, ?_⟩
              rw [fr4 130 v (by decide), fr4 138 _ (by decide), etb, fr4 134 v (by decide), ea, ix, ek4, ixn_nI (by omega)]
              refine ⟨r2, tR4.1.1.1, aA.1, by rw [(uf4.1 arr).2, aA.2.2]; exact jin_nI (by omega) (by decide), q1, by rw [q3]; exact jin_nI (by omega) (by decide), cr.1, ?_⟩
              rw [cr.2.2.2.1]
              refine useV (w_tneed t3 (ht _ (List.getElem_mem pl)) (by omega)) ?_ ?_
              · rintro h5 hI5 _ ⟨f1, he5⟩
                have he5 := he5.symm
                subst he5
                rw [f1, ok_bind] at eq
                have := w_updK hA ri hn hI tr ⟨⟨by omega, v0, vk⟩, ⟨r1, r2, r3, r4, r5⟩, ⟨by omega, n1, n2⟩, ⟨by omega, x1, x2⟩, a1, c1, c2, c3⟩ ea tR ht etb hsc s6 e0 xl ho hd hQ hX m' (ps ++ [p]) h4 (by rw [List.length_append]; show ps.length + 1 + m' = _; omega) hI4 ⟨kf4, sf4, uf4, (sC.pai hr).ck t5 tr3.nd, by rw [t6]; exact w5, fun j z hjz => ?_, fun j x' hj hx' => ?_⟩ (by rw [List.length_append]; exact eq)
                · rw [List.length_append] at this
                  rw [nI_1]
                  exact this
                · rw [ej4]
                  exact hp3 j z hjz
                · rw [List.length_append] at hj
                  have hj : j < ps.length + 1 := hj
                  by_cases jl : j < ps.length
                  · exact ((hl j x' jl hx').pai).ck hA ri t5 (xl x' (List.mem_of_getElem? hx')).1 (Or.inr (ho j ps.length x' x jl hx' hx))
                  · have : j = ps.length := by omega
                    rw [this, hx] at hx'
                    cases hx'
                    exact PlT.all hA _ _ (Nat.lt_succ_self _) xl1 t7
              · rintro z h5 hI5 _ ⟨f1, f2⟩
                rw [f1] at eq
                exact hX z h5 _ h4 hI5 eq kf4 sf4 uf4.2.2.2.2 f2
            · rintro z h4 hI4 ⟨c, hm', c1', c2', c3'⟩
              have ety : tType A E x = .error c := c1'
              rw [ety] at eq
              exact hX z h4 c hm' hI4 eq ((kf.tr kf3).tr (c2'.kf tr3 hI3 s61)) ((sf.tr sf3 hI1).tr (c2'.sf hA hI3 tr3 s61) hI3) ⟨c2'.2.1.1.trans uf.2.2.2.2.1, c2'.2.1.2.trans uf.2.2.2.2.2⟩ c3'
          · rw [if_pos b] at eq
            exact hX z h' _ _ hI' eq (kf.tr kf3) (sf.tr sf3 hI1) uf.2.2.2.2 f
      · cases hc : tColOf tbv.2.1 nm with
        | some p =>
          have et : tcI tbv.2.1 nm = nI p := by unfold tcI; rw [hc]
          rw [et] at g0
          have pl := tColOf_lt hc
          exact absurd (nI_pos' (by omega)) g0
        | none =>
          rw [hc] at eq
          dsimp only at eq
          refine useR0 (w_fault (w := "42703") ⟨by decide, by decide +kernel⟩ (by omega)) ?_
          rintro z h6 hI6 _ ⟨y1, y2⟩
          exact ⟨y1, hX z h6 _ _ hI6 eq (kf.tr kf3) (sf.tr sf3 hI1) uf.2.2.2.2 y2⟩
end
