/-! the component: an order of SELECT is checked; all orders -/
section
variable {D : JD} {h h' h'' h0 h1 h2 h3 : JH} {ρ ρ0 : Nat → Nat} {A A0 : List Nod} {E E' : TEnv} {c r i v k j d e sc n B u x z s nm arr cnt ra rb cn t tt τ itq ik : Nat} {y : Stm} {pt : List Nat} {S : Nat → Prop} {w w1 w2 : Str} {L L0 : List (Nat × List (Str × Tab))} {gs : List Nat} {gr ds : Bool} {cs : List SCol} {nd : Nod} {q q0 : List Nod × List SCol} {ss : List (Str × Tab)} {tb : Tab} {T : List Tab} {X : List Nat} {it : Itm} {os : List (Nat ⊕ Nat)} {st : List Nat} {is : List Itm}
theorem OrR.snoc {o : Nat ⊕ Nat} {L' : List (Nat × List (Str × Tab))} (k : OrR h h1 v E q ds L os) (ha : ∀ i, i < os.length → jai h2 (jfr h 152 v) i = jai h1 (jfr h 152 v) i) (hL : ∀ p ∈ L, p ∈ L') (ho : match o with
    | .inl c => jai h2 (jfr h 152 v) os.length = nI c ∧ c < q.2.length
    | .inr x => (x, E.1) ∈ L' ∧ (ds = false → jai h2 (jfr h 152 v) os.length = -1) ∧ (ds = true → ∃ c cc, q.2[c]? = some cc ∧ jai h2 (jfr h 152 v) os.length = nI c ∧ tEqual q.1 q.1 E (cc.1 + 1) cc.1 x = true)) : OrR h h2 v E q ds L' (os ++ [o]) := fun i o' h' => by
  rcases get_snoc h' with ⟨rfl, rfl⟩ | ⟨g1, g2⟩
  · exact ho
  · have il := (List.getElem?_eq_some_iff.mp g2).1
    have := k i o' g2
    cases o' with
    | inl c =>
      show jai h2 (jfr h 152 v) i = nI c ∧ _
      rw [ha i il]
      exact this
    | inr x =>
      show (x, E.1) ∈ L' ∧ (ds = false → jai h2 (jfr h 152 v) i = -1) ∧ (ds = true → ∃ c cc, q.2[c]? = some cc ∧ jai h2 (jfr h 152 v) i = nI c ∧ _)
      rw [ha i il]
      exact ⟨hL _ this.1, this.2⟩
theorem SkI.hb {B : List Nod} (hA0 : NOK A0) (n1 : 1 ≤ n) (eA : A = A0 ++ B) (hA : NOK A) (hL0 : ∀ p ∈ L0, p.1 < A0.length ∧ HB A0 n p.1) (hX : ∀ x ∈ X, x < A0.length ∧ HB A0 n x) (PL : ∀ p ∈ L, p.1 < A.length) (LA : ∀ p ∈ L, p ∈ L0 ∨ p.1 ∈ X ∨ (A0.length ≤ p.1 ∧ ndL (nat_ A p.1) = p.1)) : ∀ p ∈ L, HB A n p.1 := fun p hp => by
  rcases LA p hp with y | y | ⟨y1, y2⟩
  · obtain ⟨a, b⟩ := hL0 p y
    rw [eA]; exact b.ext hA0 a
  · obtain ⟨a, b⟩ := hX _ y
    rw [eA]; exact b.ext hA0 a
  · have ok := hA _ (PL p hp)
    have hb : HB A 1 p.1 := fun p' hp' => by
      have := (Til.lt ok.2.1).2 p' hp'
      omega
    exact hb.mono n1
theorem w_order (O : SkO D A0 ρ0 sc E pt L0 v gs gr ds X q os h h1) (hn : (E.1.map (·.1)).Nodup) (ebn : EnB E) (hI : JInv D h) (hI1 : JInv D h1) (kd : SelR h ρ0 v y) (eds : slD (smS y) = ds) (eb : EnT D h e T) (sr : SrT D h v e T y E.1) (hT : TbT T) (l12 : (slI (smS y)).length ≤ 12) (gl : ∀ g ∈ gs, g < A0.length ∧ (g, E.1) ∈ L0) {dn : Bool} (hk : (slO (smS y))[os.length]? = some (x, dn)) (l0 : ∀ p ∈ L0, p.1 < A0.length ∧ HB A0 n p.1) (hA0 : NOK A0) (hX0 : ∀ z ∈ X, z < A0.length ∧ HB A0 n z ∧ z < ndL (nat_ A0 x)) (xi : x < A0.length ∧ HB A0 n x ∧ Apt A0 L0 x) (n1 : 1 ≤ n) (hst : ∀ k, k < (slI (smS y)).length → st.getD k 0 = isum E (slI (smS y)) k) (hlen : q.2.length = isum E (slI (smS y)) (slI (smS y)).length) (hd : 4 * n + 40 ≤ d) :
    cX40_order D d v (nI os.length) sc h1 (pV D h1 (fun h' => ∃ o, cOrder gr ds E gs (slI (smS y)) st q.1 q.2 x = .ok o ∧ SkO D A0 ρ0 sc E pt L0 v gs gr ds (X ++ [x]) q (os ++ [o]) h h') (fun z h' => ∃ c, cOrder gr ds E gs (slI (smS y)) st q.1 q.2 x = .error c ∧ SkX D (stX h v) 34 187 h h' z c)) := by
  obtain ⟨d, rfl, he⟩ := dsucc (show 1 ≤ d by omega)
  have I := O.toI
  obtain ⟨v0, vk⟩ := kd.vk
  obtain ⟨kf, sg, f8, z1, z2, sc0, f160⟩ := I.pp
  have kd1 : SelR h1 ρ0 v y := kd.sf sg
  obtain ⟨aO, aT, xO, c1, c2⟩ := kd1.ord
  have kl := (List.getElem?_eq_some_iff.mp hk).1
  obtain ⟨xl0, hB0, ap0⟩ := xi
  have ix : ixn (nI os.length) = os.length := ixn_nI (by omega)
  have eo1 := (xO _ _ hk).1
  rw [cOrder_eq hst]
  refine t_X40_order ⟨v0, aO.1, by rw [aO.2.2]; exact jin_nI (by omega) (by decide), ?_⟩
  rw [ix, eo1]
  have fv := (sg.at vk (by decide)).2.2.2.2.1
  have a2 := kd1.arr (a := (152, 157, 8)) (by decide)
  have e152 := fv 152 rfl
  rw [e152] at a2 ⊢
  have a2 : AR h1 (jfr h 152 v) 157 8 := a2
  refine useI (w_nmd I hI hI1 kd eb sr hT l12 xl0 (by omega)) ?_ ?_
  · rintro rv h4 hI4 _ ⟨he4, o, eo, rfl⟩
    have he4 := he4.symm
    subst he4
    rw [eo, ok_bind]
    have l16 : q.2.length ≤ 16 := by
      obtain ⟨ρ, L, B, a⟩ := I
      exact a.2.2.2.2.2.1.2.2.2.1.2
    refine ⟨a2.1, by rw [a2.2.2]; exact jin_nI (by omega) (by decide), ?_⟩
    rintro h9 rfl
    have hr : wkA (jkd h1 (jfr h 152 v)) = true := by rw [a2.2.1]; rfl
    have ej : ∀ b : Int32, jai (wai h1 (jfr h 152 v) os.length b) (jfr h 152 v) os.length = b := fun b => by rw [jai_wai, if_pos ⟨rfl, rfl⟩]
    have ejo : ∀ (b : Int32) i, i < os.length → jai (wai h1 (jfr h 152 v) os.length b) (jfr h 152 v) i = jai h1 (jfr h 152 v) i := fun b i hi => by rw [jai_wai, if_neg fun z => by omega]
    have e9 : ∀ b : Int32, jfr (wai h1 (jfr h 152 v) os.length b) 152 v = jfr h 152 v := fun b => e152
    rw [e9, ej]
    refine ⟨a2.1, by show jin _ (jln h1 (jfr h 152 v)); rw [a2.2.2]; exact jin_nI (by omega) (by decide), ?_⟩
    obtain ⟨ρ, L, B, ⟨eA, lB, hA, ri, hρ, C, LL, LA⟩, OR⟩ := O
    obtain ⟨A, cs⟩ := q
    have eA : A = A0 ++ B := eA
    have hA : NOK A := hA
    have lB : B.length ≤ cs.length := lB
    have ri : RI ρ A.length := ri
    have C : SkC D A ρ sc E pt L (2 * B.length) (11 * B.length) v gs gr cs cs.length h h1 := C
    have LA : ∀ p ∈ L, p ∈ L0 ∨ p.1 ∈ X ∨ (A0.length ≤ p.1 ∧ ndL (nat_ A p.1) = p.1) := LA
    have C9 : ∀ b : Int32, SkC D A ρ sc E pt L (2 * B.length) (11 * B.length) v gs gr cs cs.length h (wai h1 (jfr h 152 v) os.length b) := fun b => C.pai hA hI1 hr
    have hI9 : ∀ b : Int32, JInv D (wai h1 (jfr h 152 v) os.length b) := fun b => hI1.wai (hI1.2.1 _ (by rw [a2.2.1]; rfl)) (hI1.lt (by rw [a2.2.1]; decide))
    cases o with
    | some c =>
      have cl : c < cs.length := oNm_lt l16 hlen eo
      refine ⟨fun g => ?_, fun _ => ?_⟩
      · exact absurd (nI_pos' (show c < 2 ^ 31 by have : cs.length ≤ 16 := l16; omega)) (Int32.not_le.mpr g)
      · refine endV fun _ _ => ⟨.inl c, rfl, ρ, L, B, ⟨eA, lB, hA, ri, hρ, C9 _, LL, fun p hp => ?_⟩, OR.snoc (ejo _) (fun _ hp => hp) ⟨ej _, cl⟩⟩
        rcases LA p hp with y | y | y
        · exact Or.inl y
        · exact Or.inr (Or.inl (List.mem_append_left _ y))
        · exact Or.inr (Or.inr y)
    | none =>
      refine ⟨fun _ => ?_, fun g => absurd (show (-1 : Int32) < 0 by decide) g⟩
      have xl : x < A.length := by rw [eA, List.length_append]; omega
      have hB : HB A n x := by rw [eA]; exact hB0.ext hA0 xl0
      have nx : nat_ A x = nat_ A0 x := by rw [eA]; exact nat_ext xl0
      have ap : Apt A L x := fun p hp => by
        rcases LA p hp with y | y | ⟨y1, y2⟩
        · have pl := (l0 p y).1
          rw [nx, show nat_ A p.1 = nat_ A0 p.1 from by rw [eA]; exact nat_ext pl]
          exact ap0 p y
        · rw [nx]
          exact Or.inl (hX0 _ y).2.2
        · exact Or.inr (by rw [y2]; omega)
      have ρx : ρ x = ρ0 x := hρ _ xl0
      have C9 := C9 (-1)
      have hI9 := hI9 (-1)
      have ej9 := ej (-1)
      have ejo9 := ejo (-1)
      have e0 : jar (wai h1 (jfr h 152 v) os.length (-1)) (jfr (wai h1 (jfr h 152 v) os.length (-1)) 150 v) os.length = ρ x := eo1.trans ρx.symm
      have a09 : AR (wai h1 (jfr h 152 v) os.length (-1)) (jfr (wai h1 (jfr h 152 v) os.length (-1)) 150 v) 155 8 := aO
      show _ ∧ jin _ _ ∧ (jar (wai h1 (jfr h 152 v) (ixn (nI os.length)) (-1)) (jfr (wai h1 (jfr h 152 v) (ixn (nI os.length)) (-1)) 150 v) _ ≠ 0 ∧ _)
      rw [ix, e0]
      generalize hg9 : wai h1 (jfr h 152 v) os.length (-1) = h9 at C9 hI9 ej9 ejo9 e0 a09 ⊢
      refine ⟨a09.1, by rw [a09.2.2]; exact jin_nI (by omega) (by decide), (C9.1.1.2.2.1 _ xl).1, useCk1 (w_chkP C9.1 hA ri hn hI9 xl hB ap (by omega)) ?_ ?_⟩
      · rintro v16 h3 hI3 ⟨t, t1, rfl, t3, t4, t5, P3⟩
        have C3 := C9.ck hA ri hI9 P3 t5 ap
        have kd3 : SelR h3 ρ0 v y := kd.sf P3.1.2.1
        obtain ⟨aO3, _, xO3, _, _⟩ := kd3.ord
        have eo3 : jar h3 (jfr h3 150 v) os.length = ρ x := ((xO3 _ _ hk).1).trans ρx.symm
        have ej3 : jai h3 (jfr h 152 v) os.length = -1 := ((t5.2.2.1 _ _).2.1).trans ej9
        have ejo3 : ∀ i, i < os.length → jai h3 (jfr h 152 v) i = jai h1 (jfr h 152 v) i := fun i hi => ((t5.2.2.1 _ _).2.1).trans (ejo9 i hi)
        have rm : jsz h3 ≤ jsz h + 34 ∧ jus h3 ≤ jus h + 187 := by
          have q1 := P3.1.2.2.2.2.2.2.1
          have q2 := P3.1.2.2.2.2.2.2.2
          have : cs.length ≤ 16 := l16
          omega
        have LA3 : ∀ p ∈ L ++ [(x, E.1)], p ∈ L0 ∨ p.1 ∈ X ++ [x] ∨ (A0.length ≤ p.1 ∧ ndL (nat_ A p.1) = p.1) := fun p hp => by
          rcases List.mem_append.mp hp with z | z
          · rcases LA p z with y | y | y
            · exact Or.inl y
            · exact Or.inr (Or.inl (List.mem_append_left _ y))
            · exact Or.inr (Or.inr y)
          · rw [List.mem_singleton.mp z]
            exact Or.inr (Or.inl (List.mem_append_right _ (List.mem_singleton.mpr rfl)))
        have xL : (x, E.1) ∈ L ++ [(x, E.1)] := List.mem_append_right _ (List.mem_singleton.mpr rfl)
        have hBL : ∀ p ∈ L ++ [(x, E.1)], HB A n p.1 := SkI.hb hA0 n1 eA hA l0 (fun z hz => by
          rcases List.mem_append.mp hz with g | g
          · exact ⟨(hX0 z g).1, (hX0 z g).2.1⟩
          · rw [List.mem_singleton.mp g]; exact ⟨xl0, hB0⟩) (fun p hp => (P3.2 p hp).1) LA3
        have a23 := kd3.arr (a := (152, 157, 8)) (by decide)
        have e1523 : jfr h3 152 v = jfr h 152 v := (P3.1.2.1.at vk (by decide)).2.2.2.2.1 152 rfl
        rw [e1523] at a23
        have hr3 : wkA (jkd h3 (jfr h 152 v)) = true := by rw [a23.2.1]; rfl
        rw [t1, ok_bind]
        have fin : cApart gr A E gs x = .ok () → W_X40_order_54 D d (pV D h1 (fun h' => ∃ o, (cApart gr A E gs x >>= fun _ => xMust (!ds || cs.any fun c => tEqual A A E (x + 1) x c.1) "42P10" >>= fun _ => .ok (.inr x)) = .ok o ∧ SkO D A0 ρ0 sc E pt L0 v gs gr ds (X ++ [x]) (A, cs) (os ++ [o]) h h') (fun z h' => ∃ c, (cApart gr A E gs x >>= fun _ => xMust (!ds || cs.any fun c => tEqual A A E (x + 1) x c.1) "42P10" >>= fun _ => (.ok (.inr x) : Ex (Nat ⊕ Nat))) = .error c ∧ SkX D (stX h v) 34 187 h h' z c)) v (nI os.length) h3 := by
          intro ea
          rw [ea, ok_bind]
          have dst := kd3.dst
          rw [eds] at dst
          refine ⟨v0, ?_⟩
          rw [dst]
          refine ⟨fun g => ?_, fun g => ?_⟩
          · have dt : ds = true := by
              cases z : ds with
              | true => rfl
              | false => rw [z] at g; exact absurd rfl g
            rw [tEq_any hA xl (fun c hc => by
              obtain ⟨j, jl, hj⟩ := List.getElem_of_mem hc
              have := C3.2.2.2.2.1 j c (by rw [List.getElem?_eq_getElem jl, hj])
              exact (P3.2 _ this.2.2.2.2).1), dt]
            refine ⟨cs.length + 2, w_ordK C3 hA ebn hI3 kd hBL xL (by omega) eo3 ej3 (by omega) (fun c cc hcc te => ?_) (fun nf z h' hI' f => ?_) cs.length 0 (by omega) fun j cc hj => absurd hj (Nat.not_lt_zero _)⟩
            · have any1 : (cs.any fun c => tEqual A A E (c.1 + 1) c.1 x) = true := List.any_eq_true.mpr ⟨cc, List.mem_of_getElem? hcc, te⟩
              refine endV fun _ _ => ⟨.inr x, by rw [any1]; rfl, ρ, L ++ [(x, E.1)], B, ⟨eA, lB, hA, ri, hρ, C3.pai hA hI3 hr3, fun p hp => List.mem_append_left _ (LL p hp), LA3⟩, ?_⟩
              rw [dt] at OR
              refine OR.snoc (o := .inr x) (fun i hi => ?_) (fun p hp => List.mem_append_left _ hp) ⟨xL, fun z => (by cases z), fun _ => ⟨c, cc, hcc, ?_, te⟩⟩
              · rw [jai_wai, if_neg fun z => by omega]
                exact ejo3 i hi
              · rw [jai_wai, if_pos ⟨rfl, rfl⟩]
            · refine fun _ _ => ⟨_, by rw [nf]; rfl, h3, P3.1.1, P3.1.2.1, rm.1, rm.2, f.fx (by decide +kernel)⟩
          · have dt : ds = false := by
              cases z : ds with
              | false => rfl
              | true => rw [z] at g; exact absurd g (by decide)
            rw [dt]
            refine endV fun _ _ => ⟨.inr x, rfl, ρ, L ++ [(x, E.1)], B, ⟨eA, lB, hA, ri, hρ, C3, fun p hp => List.mem_append_left _ (LL p hp), LA3⟩, ?_⟩
            rw [dt] at OR
            exact OR.snoc ejo3 (fun p hp => List.mem_append_left _ hp) ⟨xL, fun _ => ej3, fun z => by cases z⟩
        refine ⟨v0, ?_⟩
        rw [C3.2.2.1]
        refine ⟨fun g => fin ?_, fun g => ?_⟩
        · unfold cApart
          rw [if_neg]
          intro z
          rw [z] at g
          exact absurd g (by decide)
        · have hg : gr = true := by
            cases z : gr with
            | true => rfl
            | false => rw [z] at g; exact absurd rfl g
          have px : PlA A E h3 ρ x := (P3.2 (x, E.1) xL).2.env rfl
          have gg : ∀ g ∈ gs, g < A.length ∧ PlA A E h3 ρ g := fun g hg => by
            obtain ⟨b1, b2⟩ := P3.2 (g, E.1) (List.mem_append_left _ (LL _ (gl g hg).2))
            exact ⟨b1, b2.env rfl⟩
          rw [ix, eo3]
          refine ⟨aO3.1, by rw [aO3.2.2]; exact jin_nI (by omega) (by decide), (P3.1.2.2.1 _ xl).1, useV (w_grp hA P3.1.2.2.1 hI3 ebn C3.2.1.1 gg (x + 1) x d n (by omega) xl hB (by omega) px) ?_ ?_⟩
          · rintro h5 hI5 _ ⟨a1, he5⟩
            have he5 := he5.symm
            subst he5
            exact fin (by unfold cApart; rw [if_pos hg]; exact a1)
          · rintro z h5 hI5 _ ⟨a1, a2⟩
            refine fun _ _ => ⟨_, ?_, h3, P3.1.1, P3.1.2.1, rm.1, rm.2, a2.fx (by decide +kernel)⟩
            unfold cApart
            rw [if_pos hg, a1]
            rfl
      · rintro z h3 hI3 ⟨c, t1, t2⟩
        have : cs.length ≤ 16 := l16
        exact fun _ _ => ⟨c, by rw [t1]; rfl, t2.mono (by omega) (by omega)⟩
  · rintro z h4 hI4 _ ⟨e1, f⟩
    exact fun _ _ => ⟨_, by rw [e1]; rfl, I.err (f.fx (by decide +kernel))⟩
theorem cOrders_eq {o : Nat × Bool} {l : List (Nat × Bool)} : cOrders gr ds E gs is st A cs (o :: l) os = (cOrder gr ds E gs is st A cs o.1 >>= fun k => cOrders gr ds E gs is st A cs l (os ++ [k])) := by
  rw [cOrders]
theorem w_selO {Q : JO → JH → Prop} (hn : (E.1.map (·.1)).Nodup) (ebn : EnB E) (hI : JInv D h) (kd : SelR h ρ0 v y) (eds : slD (smS y) = ds) (eb : EnT D h e T) (sr : SrT D h v e T y E.1) (hT : TbT T) (l12 : (slI (smS y)).length ≤ 12) (gl : ∀ g ∈ gs, g < A0.length ∧ (g, E.1) ∈ L0) (l0 : ∀ p ∈ L0, p.1 < A0.length ∧ HB A0 n p.1) (hA0 : NOK A0) (hX0 : ∀ z ∈ X, z < A0.length ∧ HB A0 n z ∧ ∀ o ∈ slO (smS y), z < ndL (nat_ A0 o.1)) (xi : ∀ o ∈ slO (smS y), o.1 < A0.length ∧ HB A0 n o.1 ∧ Apt A0 L0 o.1) (pw : ((slO (smS y)).map (·.1)).Pairwise fun x z => x < ndL (nat_ A0 z)) (n1 : 1 ≤ n) (hst : ∀ k, k < (slI (smS y)).length → st.getD k 0 = isum E (slI (smS y)) k) (hlen : q.2.length = isum E (slI (smS y)) (slI (smS y)).length) (hd : 4 * n + 40 ≤ d)
    (hQ : ∀ os h', JInv D h' → cOrders gr ds E gs (slI (smS y)) st q.1 q.2 (slO (smS y)) [] = .ok os → SkO D A0 ρ0 sc E pt L0 v gs gr ds (X ++ (slO (smS y)).map (·.1)) q os h h' → Q (.inl none) h')
    (hX : ∀ z h' c, JInv D h' → cOrders gr ds E gs (slI (smS y)) st q.1 q.2 (slO (smS y)) [] = .error c → SkX D (stX h v) 34 187 h h' z c → Q (.inr z) h') :
    ∀ (m : Nat) (os : List (Nat ⊕ Nat)) (h1 : JH), os.length + m = (slO (smS y)).length → JInv D h1 → SkO D A0 ρ0 sc E pt L0 v gs gr ds (X ++ ((slO (smS y)).take os.length).map (·.1)) q os h h1 → cOrders gr ds E gs (slI (smS y)) st q.1 q.2 (slO (smS y)) [] = cOrders gr ds E gs (slI (smS y)) st q.1 q.2 ((slO (smS y)).drop os.length) os → L_X40_check_363 D d Q (m + 1) v sc (nI os.length) h1
  | m, os, h1, hm, hI1, O, eq => by
    obtain ⟨v0, vk⟩ := kd.vk
    obtain ⟨kf, sg, f8, z1, z2, sc0, f160⟩ := O.toI.pp
    have kd1 : SelR h1 ρ0 v y := kd.sf sg
    obtain ⟨_, _, _, c1, c2⟩ := kd1.ord
    refine ⟨v0, fun g => ?_, fun g => ?_⟩
    · rw [c1] at g
      have := (nI_leI (by omega) (by omega)).mp g
      rw [List.drop_eq_nil_of_le (by omega)] at eq
      rw [List.take_of_length_le (by omega)] at O
      exact hQ os h1 hI1 eq O
    · rw [c1] at g
      have kl : os.length < (slO (smS y)).length := Nat.lt_of_not_le fun z => g ((nI_leI (by omega) (by omega)).mpr z)
      obtain ⟨m', rfl⟩ : ∃ m', m = m' + 1 := ⟨m - 1, by omega⟩
      have hk : (slO (smS y))[os.length]? = some (slO (smS y))[os.length] := List.getElem?_eq_getElem kl
      have hmm := List.getElem_mem kl
      have tk : ((slO (smS y)).take (os.length + 1)).map (·.1) = ((slO (smS y)).take os.length).map (·.1) ++ [(slO (smS y))[os.length].1] := by
        rw [List.take_succ_eq_append_getElem kl, List.map_append]
        rfl
      have lt : ∀ z ∈ ((slO (smS y)).take os.length).map (·.1), z < ndL (nat_ A0 (slO (smS y))[os.length].1) := fun z hz => by
        obtain ⟨o, ho, rfl⟩ := List.mem_map.mp hz
        obtain ⟨i, il, hi⟩ := List.getElem_of_mem ho
        rw [List.getElem_take] at hi
        rw [List.length_take] at il
        have := List.pairwise_iff_getElem.mp pw i os.length (by rw [List.length_map]; omega) (by rw [List.length_map]; exact kl) (by omega)
        rw [List.getElem_map, List.getElem_map, hi] at this
        exact this
      rw [List.drop_eq_getElem_cons kl, cOrders_eq] at eq
      generalize (slO (smS y))[os.length] = o at hk hmm tk lt eq
      obtain ⟨x, dn⟩ := o
      refine useV (w_order (n := n) O hn ebn hI hI1 kd eds eb sr hT l12 gl hk l0 hA0 (fun z hz => ?_) (xi _ hmm) n1 hst hlen hd) ?_ ?_
      · rcases List.mem_append.mp hz with g' | g'
        · exact ⟨(hX0 z g').1, (hX0 z g').2.1, (hX0 z g').2.2 _ hmm⟩
        · refine ⟨?_, ?_, lt z g'⟩
          all_goals
            obtain ⟨o, ho, rfl⟩ := List.mem_map.mp g'
            have := xi o (List.mem_of_mem_take ho)
            first | exact this.1 | exact this.2.1
      · rintro h3 hI3 _ ⟨o, e1, O'⟩
        have eq : cOrders gr ds E gs (slI (smS y)) st q.1 q.2 (slO (smS y)) [] = (cOrder gr ds E gs (slI (smS y)) st q.1 q.2 x >>= fun k => cOrders gr ds E gs (slI (smS y)) st q.1 q.2 ((slO (smS y)).drop (os.length + 1)) (os ++ [k])) := eq
        rw [e1, ok_bind] at eq
        have tk : ((slO (smS y)).take (os.length + 1)).map (·.1) = ((slO (smS y)).take os.length).map (·.1) ++ [x] := tk
        have ln : (os ++ [o]).length = os.length + 1 := by rw [List.length_append]; rfl
        have := w_selO hn ebn hI kd eds eb sr hT l12 gl l0 hA0 hX0 xi pw n1 hst hlen hd hQ hX m' (os ++ [o]) h3 (by rw [ln]; omega) hI3 (by rw [ln, tk, ← List.append_assoc]; exact O') (by rw [ln]; exact eq)
        rw [ln] at this
        rw [nI_1]
        exact this
      · rintro z h3 hI3 _ ⟨c, e1, e2⟩
        have eq : cOrders gr ds E gs (slI (smS y)) st q.1 q.2 (slO (smS y)) [] = (cOrder gr ds E gs (slI (smS y)) st q.1 q.2 x >>= fun k => cOrders gr ds E gs (slI (smS y)) st q.1 q.2 ((slO (smS y)).drop (os.length + 1)) (os ++ [k])) := eq
        rw [e1] at eq
        exact hX z h3 c hI3 eq e2
end
