/-! the component: the sources of SELECT are checked: the loop -/
section
variable {D : JD} {h h' h'' h0 h1 h2 : JH} {ρ : Nat → Nat} {A : List Nod} {E E' : TEnv} {q c r i v k j d e sc n B u x z : Nat} {y : Stm} {T : List Tab} {pt : List Nat} {R : List Nat} {ss : List (Str × Tab)}
theorem OrA.pw (o : OrA A R) : R.Pairwise fun x z => x < ndL (nat_ A z) := by
  rw [List.pairwise_iff_getElem]
  intro i j hi hj hij
  exact o.ord i j _ _ hij (List.getElem?_eq_getElem hi) (List.getElem?_eq_getElem hj)
/-- trees of SELECT stand apart -/
theorem sl_apart (o : OrA A (slXs y)) :
    (((slI (smS y)).flatMap itX).Pairwise (fun x z => x < ndL (nat_ A z)) ∧ ((slF (smS y)).flatMap srX).Pairwise (fun x z => x < ndL (nat_ A z)) ∧ (slG (smS y)).Pairwise (fun x z => x < ndL (nat_ A z)) ∧ ((slO (smS y)).map (·.1)).Pairwise (fun x z => x < ndL (nat_ A z))) ∧
    (∀ x ∈ ((slI (smS y)).flatMap itX), (∀ z ∈ (slF (smS y)).flatMap srX, x < ndL (nat_ A z)) ∧ (∀ z, smW y = some z → x < ndL (nat_ A z)) ∧ (∀ z ∈ slG (smS y), x < ndL (nat_ A z)) ∧ (∀ z, slH (smS y) = some z → x < ndL (nat_ A z)) ∧ ∀ z ∈ (slO (smS y)).map (·.1), x < ndL (nat_ A z)) ∧
    (∀ x ∈ ((slF (smS y)).flatMap srX), (∀ z, smW y = some z → x < ndL (nat_ A z)) ∧ (∀ z ∈ slG (smS y), x < ndL (nat_ A z)) ∧ (∀ z, slH (smS y) = some z → x < ndL (nat_ A z)) ∧ ∀ z ∈ (slO (smS y)).map (·.1), x < ndL (nat_ A z)) ∧
    (∀ x, smW y = some x → (∀ z ∈ slG (smS y), x < ndL (nat_ A z)) ∧ (∀ z, slH (smS y) = some z → x < ndL (nat_ A z)) ∧ ∀ z ∈ (slO (smS y)).map (·.1), x < ndL (nat_ A z)) ∧
    (∀ x ∈ slG (smS y), (∀ z, slH (smS y) = some z → x < ndL (nat_ A z)) ∧ ∀ z ∈ (slO (smS y)).map (·.1), x < ndL (nat_ A z)) ∧
    (∀ x, slH (smS y) = some x → ∀ z ∈ (slO (smS y)).map (·.1), x < ndL (nat_ A z)) := by
  have p := o.pw
  unfold slXs at p
  obtain ⟨p5, pO, c5⟩ := List.pairwise_append.mp p
  obtain ⟨p4, _, c4⟩ := List.pairwise_append.mp p5
  obtain ⟨p3, pG, c3⟩ := List.pairwise_append.mp p4
  obtain ⟨p2, _, c2⟩ := List.pairwise_append.mp p3
  obtain ⟨pI, pF, c1⟩ := List.pairwise_append.mp p2
  have mO : ∀ {o : Option Nat} {z : Nat}, o = some z → z ∈ o.toList := fun e => by rw [e]; exact List.mem_singleton.mpr rfl
  refine ⟨⟨pI, pF, pG, pO⟩, fun x hx => ⟨fun z hz => c1 x hx z hz, fun z hz => c2 x (List.mem_append_left _ hx) z (mO hz), fun z hz => c3 x (List.mem_append_left _ (List.mem_append_left _ hx)) z hz, fun z hz => c4 x (List.mem_append_left _ (List.mem_append_left _ (List.mem_append_left _ hx))) z (mO hz), fun z hz => c5 x (List.mem_append_left _ (List.mem_append_left _ (List.mem_append_left _ (List.mem_append_left _ hx)))) z hz⟩, fun x hx => ⟨fun z hz => c2 x (List.mem_append_right _ hx) z (mO hz), fun z hz => c3 x (List.mem_append_left _ (List.mem_append_right _ hx)) z hz, fun z hz => c4 x (List.mem_append_left _ (List.mem_append_left _ (List.mem_append_right _ hx))) z (mO hz), fun z hz => c5 x (List.mem_append_left _ (List.mem_append_left _ (List.mem_append_left _ (List.mem_append_right _ hx)))) z hz⟩, fun x hx => ⟨fun z hz => c3 x (List.mem_append_right _ (mO hx)) z hz, fun z hz => c4 x (List.mem_append_left _ (List.mem_append_right _ (mO hx))) z (mO hz), fun z hz => c5 x (List.mem_append_left _ (List.mem_append_left _ (List.mem_append_right _ (mO hx)))) z hz⟩, fun x hx => ⟨fun z hz => c4 x (List.mem_append_right _ hx) z (mO hz), fun z hz => c5 x (List.mem_append_left _ (List.mem_append_right _ hx)) z hz⟩, fun x hx z hz => c5 x (List.mem_append_right _ (mO hx)) z hz⟩
theorem sl_memF {s : Src} (hs : s ∈ slF (smS y)) (hx : s.2.2.2 = some x) : x ∈ (slF (smS y)).flatMap srX := List.mem_flatMap.mpr ⟨s, hs, by unfold srX; rw [hx]; exact List.mem_singleton.mpr rfl⟩
theorem sl_memI {it : Itm} (hs : it ∈ slI (smS y)) (hx : it.1 = false) : it.2.2 ∈ (slI (smS y)).flatMap itX := List.mem_flatMap.mpr ⟨it, hs, by unfold itX; rw [if_neg (by rw [hx]; decide)]; exact List.mem_singleton.mpr rfl⟩
theorem sl_mem (hx : x ∈ (slI (smS y)).flatMap itX ∨ x ∈ (slF (smS y)).flatMap srX ∨ smW y = some x ∨ x ∈ slG (smS y) ∨ slH (smS y) = some x ∨ x ∈ (slO (smS y)).map (·.1)) : x ∈ slXs y := by
  have mO : ∀ {o : Option Nat} {z : Nat}, o = some z → z ∈ o.toList := fun e => by rw [e]; exact List.mem_singleton.mpr rfl
  unfold slXs
  rcases hx with g | g | g | g | g | g
  · exact List.mem_append_left _ (List.mem_append_left _ (List.mem_append_left _ (List.mem_append_left _ (List.mem_append_left _ g))))
  · exact List.mem_append_left _ (List.mem_append_left _ (List.mem_append_left _ (List.mem_append_left _ (List.mem_append_right _ g))))
  · exact List.mem_append_left _ (List.mem_append_left _ (List.mem_append_left _ (List.mem_append_right _ (mO g))))
  · exact List.mem_append_left _ (List.mem_append_left _ (List.mem_append_right _ g))
  · exact List.mem_append_left _ (List.mem_append_right _ (mO g))
  · exact List.mem_append_right _ g
theorem PlT.fi (hf : ∀ F q, F = 119 ∨ F = 120 → jfi h' F q = jfi h F q) : ∀ (f i : Nat), PlT A E h ρ f i → PlT A E h' ρ f i
  | 0, _, _ => trivial
  | f + 1, i, k => ⟨fun z => by rw [hf 119 _ (Or.inl rfl), hf 120 _ (Or.inr rfl)]; exact k.1 z, fun p hp => PlT.fi hf f p (k.2 p hp)⟩
theorem PlA.fi (k : PlA A E h ρ i) (hf : ∀ F q, F = 119 ∨ F = 120 → jfi h' F q = jfi h F q) : PlA A E h' ρ i := fun g => PlT.fi hf g i (k g)
theorem SelR.vk (k : SelR h ρ v y) : v ≠ 0 ∧ jkd h v = 33 := by
  obtain ⟨N, L, ⟨⟨_, u1, u2⟩, _⟩, _⟩ := k
  exact ⟨u1, u2⟩
theorem SelR.arr (k : SelR h ρ v y) {a : Nat × Nat × Nat} (ha : a ∈ selA) : AR h (jfr h a.1 v) a.2.1 a.2.2 := by
  obtain ⟨N, L, ⟨_, ua⟩, _⟩ := k
  exact (ua a ha).2
theorem SelR.src (k : SelR h ρ v y) : AR h (jfr h 144 v) 153 3 ∧ (∀ (i : Nat) s, (slF (smS y))[i]? = some s → SrcR h ρ (jar h (jfr h 144 v) i) s) ∧ jfi h 145 v = nI (slF (smS y)).length ∧ (slF (smS y)).length ≤ 3 := by
  have a := k.arr (a := (144, 153, 3)) (by decide)
  obtain ⟨N, L, _, _, ⟨s1, s2, s3⟩, _⟩ := k
  exact ⟨a, fun i s hs => (s1 i s hs).2, s2.1, s2.2⟩
theorem SelR.whe (k : SelR h ρ v y) : OtR ρ (jfr h 146 v) (smW y) ∧ OtR ρ (jfr h 149 v) (slH (smS y)) := by
  obtain ⟨N, L, _, _, _, _, _, x1, x2, x3, _⟩ := k
  exact ⟨x2.1, x3.1⟩
theorem SelR.grp (k : SelR h ρ v y) : AR h (jfr h 147 v) 154 8 ∧ ExsR h ρ (jfr h 147 v) (slG (smS y)) ∧ jfi h 148 v = nI (slG (smS y)).length ∧ (slG (smS y)).length ≤ 8 := by
  have a := k.arr (a := (147, 154, 8)) (by decide)
  obtain ⟨N, L, _, _, _, ⟨g1, g2, g3⟩, _⟩ := k
  exact ⟨a, g1, g2.1, g2.2⟩
theorem SelR.ord (k : SelR h ρ v y) : AR h (jfr h 150 v) 155 8 ∧ AR h (jfr h 151 v) 156 8 ∧ OrdR h ρ (jfr h 150 v) (jfr h 151 v) (slO (smS y)) ∧ jfi h 153 v = nI (slO (smS y)).length ∧ (slO (smS y)).length ≤ 8 := by
  have a := k.arr (a := (150, 155, 8)) (by decide)
  have b := k.arr (a := (151, 156, 8)) (by decide)
  obtain ⟨N, L, _, _, _, _, ⟨g1, g2, g3⟩, _⟩ := k
  exact ⟨a, b, g1, g2.1, g2.2⟩
theorem SelR.itm (k : SelR h ρ v y) : AR h (jfr h 142 v) 152 12 ∧ (∀ (i : Nat) it, (slI (smS y))[i]? = some it → ItmR h ρ (jar h (jfr h 142 v) i) it) ∧ jfi h 143 v = nI (slI (smS y)).length := by
  have a := k.arr (a := (142, 152, 12)) (by decide)
  obtain ⟨N, L, _, ⟨g1, g2, g3⟩, _⟩ := k
  exact ⟨a, fun i s hs => (g1 i s hs).2, g2⟩
theorem SelR.dst (k : SelR h ρ v y) : jfi h 141 v = (if slD (smS y) = true then 1 else 0) := by
  obtain ⟨N, L, _, _, _, _, _, x1, _⟩ := k
  exact x1
/-- names of sources differ -/
theorem w_selJ {Q : JO → JH → Prop} {K7 : Nat → Nat → Nat → Int32 → JH → Prop} {s : Src} (v0 : v ≠ 0) (aS : AR h (jfr h 144 v) 153 3) (ks : ∀ (i : Nat) s, (slF (smS y))[i]? = some s → SrcR h ρ (jar h (jfr h 144 v) i) s) (hs : (slF (smS y))[k]? = some s) (k3 : k < 3) (la : ss.length = k) (ha : ∀ (i : Nat) s', i < k → (slF (smS y))[i]? = some s' → ∃ t, ss[i]? = some (s'.2.1, t)) (hd : 7 ≤ d)
    (f1 : (ss.any fun q => q.1 == s.2.1) = false → L_X40_check_43 D d Q K7 1 v e sc (nI k) (nI k) h) (f2 : ∀ z h', JInv D h' → (ss.any fun q => q.1 == s.2.1) = true → Flt h h' z (sStr "42712") → Q (.inr z) h') :
    ∀ (m j : Nat), j + m = k → (ss.any fun q => q.1 == s.2.1) = ((ss.drop j).any fun q => q.1 == s.2.1) → L_X40_check_43 D d Q K7 (m + 1) v e sc (nI k) (nI j) h
  | 0, j, hjm, eq => by
    have : j = k := by omega
    subst this
    rw [List.drop_eq_nil_of_le (by omega)] at eq
    exact f1 eq
  | m + 1, j, hjm, eq => by
    have jl : j < k := by omega
    have kl := (List.getElem?_eq_some_iff.mp hs).1
    have hj : (slF (smS y))[j]? = some ((slF (smS y))[j]'(by omega)) := List.getElem?_eq_getElem (by omega)
    generalize (slF (smS y))[j]'(by omega) = sj at hj
    obtain ⟨t, ht⟩ := ha j sj jl hj
    obtain ⟨gl, ge⟩ := List.getElem?_eq_some_iff.mp ht
    rw [List.drop_eq_getElem_cons gl, ge, List.any_cons] at eq
    obtain ⟨a1, a2, a3, a4, a5, a6⟩ := ks j sj hj
    obtain ⟨b1, b2, b3, b4, b5, b6⟩ := ks k s hs
    have ixk : ixn (nI k) = k := ixn_nI (by omega)
    have ixj : ixn (nI j) = j := ixn_nI (by omega)
    refine ⟨fun g => ?_, fun g => ⟨v0, aS.1, by rw [aS.2.2]; exact jin_nI (by omega) (by decide), ?_⟩⟩
    · have := (nI_leI (by omega) (by omega)).mp g
      omega
    · rw [ixk, ixj]
      refine ⟨a1, by rw [aS.2.2]; exact jin_nI (by omega) (by decide), b1, a4.1, JW.up (n := 2) (fun dd => useI0 (k_equals (d := dd) a4 b4) ?_) (by omega)⟩
      rintro v3 h4 hI4 _ ⟨rfl, he4⟩
      have he4 := he4.symm
      subst he4
      by_cases ec : sj.2.1 = s.2.1
      · rw [if_pos ec]
        refine ⟨fun z => absurd z (by decide), fun _ => useR0 (w_fault (w := "42712") ⟨by decide, by decide +kernel⟩ hd) ?_⟩
        rintro z h6 hI6 _ ⟨y1, y2⟩
        exact ⟨y1, f2 z h6 hI6 (by rw [eq]; simp [ec]) y2⟩
      · rw [if_neg ec]
        refine ⟨fun _ => ?_, fun z => absurd rfl z⟩
        rw [nI_1]
        refine w_selJ v0 aS ks hs k3 la ha hd f1 f2 m (j + 1) (by omega) (eq.trans ?_)
        rw [show (sj.2.1 == s.2.1) = false by simpa using ec, Bool.false_or]
/-- while the sources of SELECT are checked -/
def SkS (D : JD) (ρ : Nat → Nat) (T : List Tab) (y : Stm) (pt : List Nat) (sc v e : Nat) (ss : List (Str × Tab)) (h h1 : JH) : Prop :=
  (KF chkK h h1 ∧ SF D h h1 ∧ ScC D h1 sc (ss, pt, false) ∧ jfi h1 52 sc = 0 ∧ jsz h1 = jsz h ∧ jus h1 = jus h) ∧ (ss.map (·.1)).Nodup ∧
  (∀ (i : Nat) s, (slF (smS y))[i]? = some s → i < ss.length → ∃ kk, tbNeed T s.1 = .ok kk ∧ kk < T.length ∧ ss[i]? = some (s.2.1, tbGet T kk) ∧ jfr h1 138 (jar h (jfr h 144 v) i) = tba h (jfr h 20 e) kk) ∧
  ∀ (i : Nat) s x, (slF (smS y))[i]? = some s → i < ss.length → s.2.2.2 = some x → PlA (smA y) (ss.take (i + 1), pt, false) h1 ρ x
theorem cSrcs_eq {s : Src} {l : List Src} : cSrcs T A pt (s :: l) ss = (tbNeed T s.1 >>= fun k => xMust (!(ss.any fun q => q.1 == s.2.1)) "42712" >>= fun _ => tCond A (ss ++ [(s.2.1, tbGet T k)], pt, false) s.2.2.2 >>= fun _ => cSrcs T A pt l (ss ++ [(s.2.1, tbGet T k)])) := by
  rw [cSrcs]
theorem scK_chk : ∀ k, scK k = true → chkK k = true := fun k e => by
  unfold scK at e
  simp only [Bool.or_eq_true, Nat.beq_eq] at e
  rcases e with e | e <;> rw [e] <;> decide
theorem w_selF {Q : JO → JH → Prop} (hA : NOK (smA y)) (ri : RI ρ (smA y).length) (hI : JInv D h) (tr : TreeR D h (smA y) ρ) (eb : EnT D h e T) (s6 : jkd h sc = 6) (hT : TbT T) (kd : SelR h ρ v y) (xl : ∀ x ∈ slXs y, x < (smA y).length ∧ HB (smA y) n x) (ord : OrA (smA y) (slXs y)) (hd : n + 20 ≤ d)
    (hQ : ∀ ss h1, JInv D h1 → cSrcs T (smA y) pt (slF (smS y)) [] = .ok ss → ss.length = (slF (smS y)).length → SkS D ρ T y pt sc v e ss h h1 → cX20_truth D d (jfr h1 146 v) sc h1 (pV D h1 (fun h3 => ∃ n, L_X40_check_134 D d Q n v sc 0 h3) (jth Q)))
    (hX : ∀ z h' c hm, JInv D h' → cSrcs T (smA y) pt (slF (smS y)) [] = .error c → KF chkK h hm → SF D h hm → (jsz hm = jsz h ∧ jus hm = jus h) → FlX hm h' z c → Q (.inr z) h') :
    ∀ (m : Nat) (ss : List (Str × Tab)) (h1 : JH), ss.length + m = (slF (smS y)).length → JInv D h1 → SkS D ρ T y pt sc v e ss h h1 → cSrcs T (smA y) pt (slF (smS y)) [] = cSrcs T (smA y) pt ((slF (smS y)).drop ss.length) ss → L_X40_check_7 D d Q (m + 1) v e sc (nI ss.length) h1
  | m, ss, h1, hm, hI1, S, eq => by
    have S0 := S
    obtain ⟨⟨kf, sf, sC, w5, z1, z2⟩, nd, tb, pl⟩ := S
    obtain ⟨v0, vk⟩ := kd.vk
    obtain ⟨aS, ks, c1, c2⟩ := kd.src
    have kd1 : SelR h1 ρ v y := kd.sf sf
    obtain ⟨aS1, ks1, c11, _⟩ := kd1.src
    refine ⟨v0, fun g => ?_, fun g => ?_⟩
    · rw [c11] at g
      have := (nI_leI (by omega) (by omega)).mp g
      rw [List.drop_eq_nil_of_le (by omega)] at eq
      exact hQ ss h1 hI1 eq (by omega) S0
    · rw [c11] at g
      have kl : ss.length < (slF (smS y)).length := Nat.lt_of_not_le fun z => g ((nI_leI (by omega) (by omega)).mpr z)
      obtain ⟨m', rfl⟩ : ∃ m', m = m' + 1 := ⟨m - 1, by omega⟩
      have hs : (slF (smS y))[ss.length]? = some ((slF (smS y))[ss.length]) := List.getElem?_eq_getElem kl
      rw [List.drop_eq_getElem_cons kl, cSrcs_eq] at eq
      generalize (slF (smS y))[ss.length] = s at hs eq
      have e144 : jfr h1 144 v = jfr h 144 v := (sf.at vk (by decide)).2.2.2.2.1 144 rfl
      have ejs : ∀ i, jar h1 (jfr h 144 v) i = jar h (jfr h 144 v) i := (sf.at aS.2.1 (by decide)).2.2.2.2.2.2 rfl (by decide)
      rw [e144] at aS1 ks1
      have su := ks1 _ s hs
      rw [ejs] at su
      obtain ⟨eb1, se⟩ := eb.kf kf hI
      have ix : ixn (nI ss.length) = ss.length := ixn_nI (by omega)
      rw [e144, ix, ejs]
      refine ⟨aS.1, by rw [aS1.2.2]; exact jin_nI (by omega) (by decide), eb1.1.1, by rw [aS1.2.2]; exact jin_nI (by omega) (by decide), su.1, eb1.2.1, useR (w_needed eb1.2.2 su.2.2.1 (by omega)) ?_ ?_⟩
      · rintro t h2 hI2 _ ⟨he2, kk, e1, kkl, e2, rfl⟩
        have he2 := he2.symm
        subst he2
        rintro hs' rfl
        have etb : tba h1 (jfr h1 20 e) kk = tba h (jfr h 20 e) kk := eb.tb kf hI
        have tg : tbGet T kk = T[kk] := by unfold tbGet; rw [List.getD_eq_getElem?_getD, List.getElem?_eq_getElem kkl]; rfl
        have tR : TabR D h1 (tba h1 (jfr h1 20 e) kk) (tbGet T kk) := by
          rw [tg]
          exact eb1.2.2.2.2 kk _ (List.getElem?_eq_getElem kkl)
        rw [e1, ok_bind] at eq
        have huk := su.2.1
        have u4 : StR h1 (jfr h1 136 (jar h (jfr h 144 v) ss.length)) s.2.1 := su.2.2.2.1
        generalize hu : jar h (jfr h 144 v) ss.length = u at su huk u4 ⊢
        have hIs : JInv D (wfr h1 138 u (tba h1 (jfr h1 20 e) kk)) := hI1.wfr (hI1.2.1 _ (by rw [huk]; rfl)) (hI1.lt (by rw [huk]; decide)) (Or.inr (by rw [tR.1.1.2]; rfl))
        have kfs : KF chkK h1 (wfr h1 138 u (tba h1 (jfr h1 20 e) kk)) := KF.w138 huk
        have sfs : SF D h1 (wfr h1 138 u (tba h1 (jfr h1 20 e) kk)) := SF.w138 hI1 huk
        have ef : ∀ F q, F ≠ 138 → jfr (wfr h1 138 u (tba h1 (jfr h1 20 e) kk)) F q = jfr h1 F q := fun F q hF => by rw [jfr_wfr, if_neg (fun z => hF z.1)]
        have kds : SelR (wfr h1 138 u (tba h1 (jfr h1 20 e) kk)) ρ v y := kd1.sf sfs
        obtain ⟨aSs, kss, _, _⟩ := kds.src
        refine ⟨ss.length + 1, w_selJ (y := y) (ρ := ρ) (ss := ss) (s := s) v0 aSs kss hs (by omega) rfl (fun i s' hi hs2 => ?_) (by omega) (fun b => ?_) (fun z h' hI' b f => ?_) ss.length 0 (by omega) (by rw [List.drop_zero])⟩
        · obtain ⟨kk', _, _, g3, _⟩ := tb i s' hs2 hi
          exact ⟨_, g3⟩
        · have nob : ∀ q ∈ ss, q.1 ≠ s.2.1 := fun q hq z => by
            have := List.any_eq_false.mp b q hq
            rw [z] at this
            exact this (beq_self_eq_true _)
          have nu : ∀ (i : Nat) s', (slF (smS y))[i]? = some s' → i < ss.length → jar h (jfr h 144 v) i ≠ u := fun i s' hs2 hi z => by
            obtain ⟨kk', _, _, g3, _⟩ := tb i s' hs2 hi
            have g4 := (ks1 i s' hs2).2.2.2.1
            rw [ejs, z] at g4
            exact nob _ (List.mem_of_getElem? g3) (g4.inj u4)
          rw [b, show xMust (!false) "42712" = .ok () from rfl, ok_bind] at eq
          have sCs : ScC D (wfr h1 138 u (tba h1 (jfr h1 20 e) kk)) sc (ss, pt, false) := sC.w138 hI1 huk fun j q hq z => by
            have g4 := (sC.2.1.2.2.2.2 j q hq).2.2.1
            rw [z] at g4
            exact nob _ (List.mem_of_getElem? hq) (g4.inj u4)
          have e138 : jfr (wfr h1 138 u (tba h1 (jfr h1 20 e) kk)) 138 u = tba h1 (jfr h1 20 e) kk := by rw [jfr_wfr, if_pos ⟨rfl, rfl⟩]
          obtain ⟨sCp, kfp⟩ := sCs.push (u := u) (nm := s.2.1) (tb := tbGet T kk) hIs rfl (by omega) su.1 huk (by rw [ef 136 _ (by decide)]; exact sfs.2.2.2.2.2.2.1 _ _ u4) (by rw [e138]; exact (tR.kf kfs hI1 ktb_chk).tabC fun c hc => by rw [tg] at hc; exact hT _ (List.getElem_mem kkl) c hc)
          have q3 := sCs.2.1
          have e144s : jfr (wfr h1 138 u (tba h1 (jfr h1 20 e) kk)) 144 v = jfr h 144 v := (ef 144 v (by decide)).trans e144
          refine ⟨fun _ => ⟨sCs.1.1, v0, ?_⟩, fun g => absurd (nI_le (Nat.le_refl _) (by omega)) g⟩
          rw [e144s, ix, show jar (wfr h1 138 u (tba h1 (jfr h1 20 e) kk)) (jfr h 144 v) ss.length = u from (ejs _).trans hu, nI_1]
          rw [e144s] at aSs
          refine ⟨aSs.1, by rw [aSs.2.2]; exact jin_nI (by omega) (by decide), q3.1, by rw [q3.2.1]; exact jin_nI (by omega) (by decide), ?_⟩
          rintro h8 rfl h10 rfl
          generalize hgen : wfi (war (wfr h1 138 u (tba h1 (jfr h1 20 e) kk)) (jfr (wfr h1 138 u (tba h1 (jfr h1 20 e) kk)) 47 sc) ss.length u) 48 sc (nI (ss.length + 1)) = hp at sCp kfp ⊢
          have hIp : JInv D hp := by
            rw [← hgen]
            have k41 : jkd (wfr h1 138 u (tba h1 (jfr h1 20 e) kk)) (jfr (wfr h1 138 u (tba h1 (jfr h1 20 e) kk)) 47 sc) = 141 := hIs.ref (F := 47) (by decide +kernel) q3.1
            refine (hIs.war (hIs.2.1 _ (by rw [k41]; rfl)) (hIs.lt (by rw [k41]; decide)) (Or.inr ?_)).wfi (hIs.2.1 _ (by rw [sCs.1.2]; rfl)) (hIs.lt (by rw [sCs.1.2]; decide))
            rw [k41]
            show sbt (jkd h1 u) _ = true
            rw [huk]
            rfl
          have sfA : SF D h hp := (sf.tr sfs hI1).tr (kfp.sf hIs scK_w) hIs
          have kfA : KF chkK h hp := (kf.tr kfs).tr (kfp.mono scK_chk)
          have trp := tr.sf sfA hA hI
          have kdp : SelR hp ρ v y := kd.sf sfA
          have s6p := sCp.1.2
          have e144p : jfr hp 144 v = jfr h 144 v := (sfA.at vk (by decide)).2.2.2.2.1 144 rfl
          have ejsp : ∀ i, jar hp (jfr h 144 v) i = jar h (jfr h 144 v) i := (sfA.at aS.2.1 (by decide)).2.2.2.2.2.2 rfl (by decide)
          obtain ⟨aSp, ksp, _, _⟩ := kdp.src
          rw [e144p] at aSp ksp
          have srp := ksp _ s hs
          rw [ejsp, hu] at srp
          have w5p : jfi hp 52 sc = 0 := by rw [← hgen, jfi_wfi, if_neg (by omega)]; exact w5
          have szp : jsz hp = jsz h ∧ jus hp = jus h := by rw [← hgen]; exact ⟨z1, z2⟩
          have fip : ∀ F q, F = 119 ∨ F = 120 → jfi hp F q = jfi h1 F q := fun F q hF => by rw [← hgen, jfi_wfi, if_neg (by omega)]; rfl
          have f8p : ∀ q, jfr hp 138 q = if q = u then tba h1 (jfr h1 20 e) kk else jfr h1 138 q := fun q => by
            rw [← hgen]
            show jfr (wfr h1 138 u (tba h1 (jfr h1 20 e) kk)) 138 q = _
            rw [jfr_wfr]
            by_cases z : q = u
            · rw [if_pos ⟨rfl, z⟩, if_pos z]
            · rw [if_neg (fun g => z g.2), if_neg z]
          have nd' : ((ss ++ [(s.2.1, tbGet T kk)]).map (·.1)).Nodup := by
            rw [List.map_append]
            refine List.nodup_append.mpr ⟨nd, by simp, fun a ha b hb => ?_⟩
            obtain ⟨q, hq, rfl⟩ := List.mem_map.mp ha
            have hb : b = s.2.1 := by simpa using hb
            rw [hb]
            exact nob q hq
          have smem := List.mem_of_getElem? hs
          rw [e144p, ejsp, hu]
          refine ⟨aSp.1, by rw [aSp.2.2]; exact jin_nI (by omega) (by decide), su.1, useV (w_truthD hA ri nd' trp sCp w5p (fun x hx => xl x (sl_mem (Or.inr (Or.inl (sl_memF smem hx))))) srp.2.2.2.2.2 (by omega)) ?_ ?_⟩
          · rintro h3 hI3 _ ⟨t1, t2, t3, t4, t5⟩
            rw [t1, ok_bind] at eq
            have := w_selF hA ri hI tr eb s6 hT kd xl ord hd hQ hX m' (ss ++ [(s.2.1, tbGet T kk)]) h3 (by rw [List.length_append]; show ss.length + 1 + m' = _; omega) hI3 ⟨⟨kfA.tr (t2.kf trp hIp s6p), sfA.tr (t2.sf hA hIp trp s6p) hIp, sCp.ck t2 trp.nd, t3, by rw [t2.2.1.1]; exact szp.1, by rw [t2.2.1.2]; exact szp.2⟩, nd', fun i s' hi il => ?_, fun i s' x hi il hx => ?_⟩ (by rw [List.length_append]; exact eq)
            · rw [List.length_append] at this
              exact this
            · rw [t2.2.2.2.2.1 138 _ (fun z => absurd z (by decide)), f8p]
              by_cases ik : i < ss.length
              · obtain ⟨kk', g1, g2, g3, g4⟩ := tb i s' hi ik
                refine ⟨kk', g1, g2, ?_, ?_⟩
                · rw [List.getElem?_append, if_pos ik]; exact g3
                · rw [if_neg (nu i s' hi ik)]; exact g4
              · rw [List.length_append] at il
                have il : i < ss.length + 1 := il
                have : i = ss.length := by omega
                subst this
                rw [hs] at hi
                cases hi
                refine ⟨kk, e1, kkl, ?_, ?_⟩
                · rw [List.getElem?_append, if_neg (Nat.lt_irrefl _), Nat.sub_self]; rfl
                · rw [if_pos hu]; exact etb
            · by_cases ik : i < ss.length
              · rw [List.take_append_of_le_length (by omega)]
                refine t5 x _ (xl x (sl_mem (Or.inr (Or.inl (sl_memF (List.mem_of_getElem? hi) hx))))).1 (fun x' hx' => Or.inl ?_) ((pl i s' x hi ik hx).fi fip)
                have pw := (List.pairwise_flatMap.mp (sl_apart ord).1.2.1).2
                have il' := (List.getElem?_eq_some_iff.mp hi)
                have kl' := (List.getElem?_eq_some_iff.mp hs)
                refine List.pairwise_iff_getElem.mp pw i ss.length il'.1 kl'.1 ik x ?_ x' ?_
                · rw [il'.2]; unfold srX; rw [hx]; exact List.mem_singleton.mpr rfl
                · rw [kl'.2]; unfold srX; rw [hx']; exact List.mem_singleton.mpr rfl
              · rw [List.length_append] at il
                have il : i < ss.length + 1 := il
                have : i = ss.length := by omega
                subst this
                rw [hs] at hi
                cases hi
                rw [List.take_of_length_le (by rw [List.length_append]; exact Nat.le_refl _)]
                exact t4 x hx
          · rintro z h3 hI3 _ ⟨c, hm', g1, g2, g3⟩
            rw [g1] at eq
            exact hX z h3 c hm' hI3 eq (kfA.tr (g2.kf trp hIp s6p)) (sfA.tr (g2.sf hA hIp trp s6p) hIp) ⟨g2.2.1.1.trans szp.1, g2.2.1.2.trans szp.2⟩ g3
        · rw [b, show xMust (!true) "42712" = .error (sStr "42712") from rfl] at eq
          exact hX z h' _ _ hI' eq (kf.tr kfs) (sf.tr sfs hI1) ⟨z1, z2⟩ (f.fx (by decide +kernel))
      · rintro z h2 hI2 _ ⟨e1, f⟩
        rw [e1] at eq
        exact hX z h2 _ h1 hI2 eq kf sf ⟨z1, z2⟩ (f.fx (by decide +kernel))
end
