/-! the component: the sources of SELECT are checked -/
section
variable {D : JD} {h h' h'' h0 h1 h2 : JH} {ρ : Nat → Nat} {A : List Nod} {E E' : TEnv} {q c r i v k j d e sc n B u x z : Nat} {y : Stm} {T : List Tab} {pt : List Nat} {R : List Nat} {ss : List (Str × Tab)} {k' : Nat}
theorem PlT.env (e : E.1 = E'.1) : ∀ (f i : Nat), PlT A E h ρ f i → PlT A E' h ρ f i
  | 0, _, _ => trivial
  | f + 1, i, k => ⟨fun z => by rw [← e]; exact k.1 z, fun p hp => PlT.env e f p (k.2 p hp)⟩
theorem PlA.env (k : PlA A E h ρ i) (e : E.1 = E'.1) : PlA A E' h ρ i := fun g => PlT.env e g i (k g)
theorem OrA.dj (o : OrA A R) (hx : x ∈ R) (hz : z ∈ R) (ne : x ≠ z) : x < ndL (nat_ A z) ∨ z < ndL (nat_ A x) := by
  obtain ⟨a, al, ea⟩ := List.getElem_of_mem hx
  obtain ⟨b, bl, eb⟩ := List.getElem_of_mem hz
  have ha : R[a]? = some x := by rw [List.getElem?_eq_getElem al, ea]
  have hb : R[b]? = some z := by rw [List.getElem?_eq_getElem bl, eb]
  by_cases c1 : a < b
  · exact Or.inl (o.ord a b x z c1 ha hb)
  · by_cases c2 : b < a
    · exact Or.inr (o.ord b a z x c2 hb ha)
    · have : a = b := by omega
      subst this
      rw [ha] at hb
      cases hb
      exact absurd rfl ne
theorem EnT.kf (k : EnT D h e T) (a : KF chkK h h1) (hI : JInv D h) : EnT D h1 e T ∧ same h h1 e := by
  have s : same h h1 e := a.obj hI (by rw [k.1.2]; decide) (by rw [k.1.2]; decide) (by rw [k.1.2]; rfl)
  exact ⟨⟨⟨k.1.1, by rw [s.kd]; exact k.1.2⟩, by rw [s.fr]; exact k.2.1, by rw [s.fr]; exact k.2.2.kf a hI ktb_chk⟩, s⟩
theorem EnT.tb (k : EnT D h e T) (a : KF chkK h h1) (hI : JInv D h) : tba h1 (jfr h1 20 e) j = tba h (jfr h 20 e) j := by
  obtain ⟨_, s⟩ := k.kf a hI
  obtain ⟨_, s1, s2⟩ := k.2.2.1.kf a hI ktb_chk
  unfold tba
  rw [s.fr, s1.fr, s2.ar]
/-- a condition is checked; trees apart from it keep their places -/
theorem w_truthD {o : Option Nat} (hA : NOK A) (ri : RI ρ A.length) (hn : (E.1.map (·.1)).Nodup) (tr : TreeR D h A ρ) (sC : ScC D h sc E) (hw : jfi h 52 sc = 0) (ol : ∀ x, o = some x → x < A.length ∧ HB A n x) (kr : OtR ρ r o) (hd : n + 13 ≤ d) :
    cX20_truth D d r sc h (pV D h (fun h' => tCond A E o = .ok () ∧ CkF sc (NM A ρ 0 A.length) h h' ∧ jfi h' 52 sc = 0 ∧ (∀ x, o = some x → PlA A E h' ρ x) ∧ ∀ (j : Nat) (E' : TEnv), j < A.length → (∀ x, o = some x → j < ndL (nat_ A x) ∨ x < ndL (nat_ A j)) → PlA A E' h ρ j → PlA A E' h' ρ j) (fun z h' => ∃ c hm, tCond A E o = .error c ∧ CkF sc (NM A ρ 0 A.length) h hm ∧ FlX hm h' z c)) := by
  obtain ⟨d, rfl, he⟩ := dsucc (show 1 ≤ d by omega)
  cases o with
  | none =>
    have kr : r = 0 := kr
    subst kr
    exact t_X20_truth ⟨fun _ => endV fun _ _ => ⟨rfl, CkF.rf, hw, fun x hx => (by cases hx), fun _ _ _ _ k => k⟩, fun z => absurd rfl z⟩
  | some x =>
    have kr : r = ρ x := kr
    subst kr
    obtain ⟨xl, hB⟩ := ol x rfl
    have up : ∀ {h1 : JH}, CkF sc (NM A ρ (ndL (nat_ A x)) (x + 1)) h h1 → CkF sc (NM A ρ 0 A.length) h h1 := fun z => z.mono fun q hq => hq.mono (by omega) (by omega)
    refine t_X20_truth ⟨fun z => absurd z (tr x xl).1, fun _ => useCk1 (w_check hA ri hn (x + 1) x false h d n (by omega) xl hB (by omega) tr sC hw) ?_ ?_⟩
    · rintro v1 h1 hI1 ⟨t, t1, rfl, t3, t4, t5, t6, t7⟩
      have et : tCond A E (some x) = tFits t 16 := by
        show (tType A E x >>= fun t => tFits t 16) = _
        unfold tType
        rw [t1]; rfl
      show cX24_need D d (tyc D t) (tyc D 16) h1 _
      refine useV (w_tneed t3 (Or.inr (Or.inl rfl)) (by omega)) ?_ ?_
      · rintro h2 hI2 _ ⟨f1, he2⟩
        have he2 := he2.symm
        subst he2
        refine endV fun _ _ => ⟨et.trans f1, up t5, by rw [t6]; exact hw, fun x' hx' => (by cases hx'; exact PlT.all hA _ _ (Nat.lt_succ_self _) xl t7), fun j E' jl hj k => k.ck hA ri t5 jl ?_⟩
        rcases hj x rfl with g | g
        · exact Or.inr g
        · exact Or.inl g
      · rintro z h2 hI2 _ ⟨f1, f2⟩
        exact fun _ _ => ⟨_, h1, et.trans f1, up t5, f2.fx (by decide +kernel)⟩
    · rintro z h1 hI1 ⟨c, hm, c1, c2, c3⟩
      have ec : tCond A E (some x) = .error c := by
        show (tType A E x >>= fun t => tFits t 16) = _
        unfold tType
        rw [c1]; rfl
      exact fun _ _ => ⟨c, hm, ec, up c2, c3.fx (nb_cond c ec)⟩
theorem KF.w138 (hr : jkd h r = 31) : KF chkK h (wfr h 138 r u) := by
  have ef : ∀ F q, F ≠ 138 → jfr (wfr h 138 r u) F q = jfr h F q := fun F q hF => by rw [jfr_wfr, if_neg (fun z => hF z.1)]
  refine ⟨fun q _ _ q3 _ => same_wfr fun z => ?_, Nat.le_refl _, fun _ _ => rfl, fun o F x y hF => ?_⟩
  · rw [z, hr] at q3; cases q3
  · rw [ef F x (by omega), ef F y (by omega)]
    exact o F x y hF
/-- the table of a source that is not known yet is written -/
theorem ScC.w138 (k : ScC D h sc E) (hI : JInv D h) (hr : jkd h r = 31) (hn : ∀ (j : Nat) q, E.1[j]? = some q → jar h (jfr h 47 sc) j ≠ r) : ScC D (wfr h 138 r u) sc E := by
  have ef : ∀ F q, F ≠ 138 → jfr (wfr h 138 r u) F q = jfr h F q := fun F q hF => by rw [jfr_wfr, if_neg (fun z => hF z.1)]
  have st : ∀ q w, StR h q w → StR (wfr h 138 r u) q w := (SF.w138 (D := D) hI hr).2.2.2.2.2.2.1
  obtain ⟨k1, ⟨k3, k4, k5, k6, k7⟩, k8, k12⟩ := k
  refine ⟨k1, ⟨by rw [ef 47 _ (by decide)]; exact k3, by rw [ef 47 _ (by decide)]; exact k4, k5, k6, fun j q hq => ?_⟩, by rw [ef 49 _ (by decide)]; exact k8, k12⟩
  obtain ⟨a1, a2, a3, ⟨t1, t2, t3, t4, t5, t6, t7⟩⟩ := k7 j q hq
  have ne := hn j q hq
  rw [ef 47 _ (by decide)]
  refine ⟨a1, a2, by rw [ef 136 _ (by decide)]; exact st _ _ a3, ?_⟩
  rw [show jar (wfr h 138 r u) (jfr h 47 sc) j = jar h (jfr h 47 sc) j from rfl, show jfr (wfr h 138 r u) 138 (jar h (jfr h 47 sc) j) = jfr h 138 (jar h (jfr h 47 sc) j) from by rw [jfr_wfr, if_neg (fun z => ne z.2)]]
  refine ⟨t1, t2, by rw [ef 43 _ (by decide)]; exact t3, t4, by rw [ef 43 _ (by decide)]; exact t5, by rw [ef 43 _ (by decide)]; exact t6, fun i v hv => ?_⟩
  obtain ⟨⟨c1, c2, c3, c4, c5, c6⟩, c7⟩ := t7 i v hv
  rw [ef 43 _ (by decide)]
  exact ⟨⟨c1, c2, by rw [ef 92 _ (by decide)]; exact st _ _ c3, by rw [ef 93 _ (by decide)]; exact c4, c5, c6⟩, c7⟩
theorem f43 : ∀ k, k < 226 → sbt k (ftg 43) = true → k ≠ 0 ∧ k ≠ 144 ∧ k ≠ 24 ∧ k ≠ 159 ∧ scK k = false ∧ chkK k = false := by decide +kernel
theorem TabC.kf {tb : Nat} {cs : List Col} {K : Nat → Bool} (t : TabC D h tb cs) (a : KF K h h1) (hI : JInv D h) (h5 : K 5 = false) (h2 : (∀ k, k < 226 → sbt k (ftg 43) = true → K k = false) ∧ K 16 = false) (h3 : K 12 = false ∧ K 51 = false ∧ K 66 = false ∧ K 219 = false) (k5 : jkd h tb = 5) : TabC D h1 tb cs := by
  obtain ⟨t1, t2, t3, t4, t5, t6, t7⟩ := t
  have s : same h h1 tb := a.obj hI (by rw [k5]; decide) (by rw [k5]; decide) (by rw [k5]; exact h5)
  have k43 : sbt (jkd h (jfr h 43 tb)) (ftg 43) = true := Or.resolve_left (hI.2.2.1 43 tb) t3
  have f := f43 _ (sbt_lt k43) k43
  have s2 : same h h1 (jfr h 43 tb) := a.obj hI f.1 f.2.1 (h2.1 _ (sbt_lt k43) k43)
  refine ⟨t1, by rw [s.kd]; exact t2, by rw [s.fr]; exact t3, by rw [s.fi]; exact t4, by rw [s.fr, s2.ln]; exact t5, by rw [s.fr, s2.ln]; exact t6, fun i v hv => ?_⟩
  obtain ⟨c, c7⟩ := t7 i v hv
  rw [s.fr, s2.ar]
  have s3 : same h h1 (jar h (jfr h 43 tb) i) := a.obj hI (by rw [c.2.1]; decide) (by rw [c.2.1]; decide) (by rw [c.2.1]; exact h2.2)
  exact ⟨c.of s3 fun q w k => a.str hI k h3, c7⟩
/-- one source more is known -/
theorem ScC.push {nm : Str} {tb : Tab} (k : ScC D h sc (ss, pt, false)) (hI : JInv D h) (hk : ss.length = k') (k3 : k' < 3) (s0 : u ≠ 0) (s1 : jkd h u = 31) (s2 : StR h (jfr h 136 u) nm) (s3 : TabC D h (jfr h 138 u) tb.2.1) :
    ScC D (wfi (war h (jfr h 47 sc) k' u) 48 sc (nI (k' + 1))) sc (ss ++ [(nm, tb)], pt, false) ∧ KF scK h (wfi (war h (jfr h 47 sc) k' u) 48 sc (nI (k' + 1))) := by
  obtain ⟨k1, ⟨q3, q4, q5, q6, q7⟩, ⟨p1, p2, p3, p4⟩, q12⟩ := k
  have k41 : jkd h (jfr h 47 sc) = 141 := hI.ref (F := 47) (by decide +kernel) q3
  have kf : KF scK h (wfi (war h (jfr h 47 sc) k' u) 48 sc (nI (k' + 1))) := by
    refine ⟨fun q _ q2 q3 _ => (same_war fun z => ?_).tr (same_wfi fun z => ?_), Nat.le_refl _, fun _ _ => rfl, fun o => o⟩
    · rw [z, k41] at q3; cases q3
    · have q3 : scK (jkd h q) = false := q3
      rw [z, k1.2] at q3; cases q3
  have st : ∀ q w, StR h q w → StR (wfi (war h (jfr h 47 sc) k' u) 48 sc (nI (k' + 1))) q w := fun q w z => kf.str hI z ⟨rfl, rfl, rfl, rfl⟩
  refine ⟨⟨k1, ⟨q3, q4, ?_, ?_, fun j q hq => ?_⟩, ⟨p1, p2, p3, fun j t ht => ?_⟩, ?_⟩, kf⟩
  · rw [jfi_wfi, if_pos ⟨rfl, rfl⟩]
    show nI (k' + 1) = nI (ss ++ [(nm, tb)]).length
    rw [List.length_append, hk]; rfl
  · show (ss ++ [(nm, tb)]).length ≤ 3
    rw [List.length_append, hk]
    show k' + 1 ≤ 3
    omega
  · have hq : (ss ++ [(nm, tb)])[j]? = some q := hq
    rcases get_snoc hq with ⟨g1, g2⟩ | ⟨g1, g2⟩
    · have ea : jar (wfi (war h (jfr h 47 sc) k' u) 48 sc (nI (k' + 1))) (jfr (wfi (war h (jfr h 47 sc) k' u) 48 sc (nI (k' + 1))) 47 sc) j = u := by
        show jar (war h (jfr h 47 sc) k' u) (jfr h 47 sc) j = u
        rw [jar_war, if_pos ⟨rfl, by omega⟩]
      rw [ea, g2]
      exact ⟨s0, s1, st _ _ s2, s3.kf kf hI rfl ⟨fun k h1 h2 => (f43 k h1 h2).2.2.2.2.1, rfl⟩ ⟨rfl, rfl, rfl, rfl⟩ (hI.ref (F := 138) (by decide +kernel) s3.1)⟩
    · have ea : jar (wfi (war h (jfr h 47 sc) k' u) 48 sc (nI (k' + 1))) (jfr (wfi (war h (jfr h 47 sc) k' u) 48 sc (nI (k' + 1))) 47 sc) j = jar h (jfr h 47 sc) j := by
        show jar (war h (jfr h 47 sc) k' u) (jfr h 47 sc) j = _
        rw [jar_war, if_neg (fun z => by omega)]
      rw [ea]
      obtain ⟨a1, a2, a3, a4⟩ := q7 j q g2
      exact ⟨a1, a2, st _ _ a3, a4.kf kf hI rfl ⟨fun k h1 h2 => (f43 k h1 h2).2.2.2.2.1, rfl⟩ ⟨rfl, rfl, rfl, rfl⟩ (hI.ref (F := 138) (by decide +kernel) a4.1)⟩
  · obtain ⟨x1, x2⟩ := p4 j t ht
    refine ⟨?_, x2⟩
    have ne : jfr h 49 sc ≠ jfr h 47 sc := fun z => by
      have k49 : sbt (jkd h (jfr h 49 sc)) (ftg 49) = true := Or.resolve_left (hI.2.2.1 49 sc) p1
      rw [z, k41] at k49
      exact absurd k49 (by decide +kernel)
    show jar (war h (jfr h 47 sc) k' u) (jfr h 49 sc) j = _
    rw [jar_war, if_neg (fun z => ne z.1)]
    exact x1
  · rw [jfi_wfi, if_neg (by omega)]
    exact q12
end
