/-! the component: conditions are checked; the table of UPDATE and DELETE; DELETE is checked -/
section
variable {D : JD} {h h' h'' h1 h2 : JH} {ρ : Nat → Nat} {A : List Nod} {E : TEnv} {q c r i v k j d e sc n B u : Nat} {y : Stm} {T : List Tab} {pt : List Nat} {K : Nat → Bool}
/-- kinds that change while a statement is checked -/
def chkK (k : Nat) : Bool := Nat.beq k 6 || (Nat.beq k 19 || ((Nat.ble 20 k && Nat.ble k 31) || (Nat.beq k 33 || (Nat.beq k 141 || (Nat.beq k 148 || (Nat.beq k 151 || (Nat.ble 157 k && Nat.ble k 160)))))))
theorem chk_no : ∀ k, k < 226 → chkK k = false → k ≠ 6 ∧ (k < 20 ∨ 31 < k) ∧ k ≠ 141 := by decide +kernel
theorem useCk1 {K0 K1 : Nat → JH → Prop} {X X1 : Nat → JH → Prop} (k : v55_check D d q sc h (pR D h 52 K0 X)) (f1 : ∀ v h', JInv D h' → K0 v h' → K1 v h') (f2 : ∀ y h', JInv D h' → X y h' → X1 y h') : v55_check D d q sc h (pR D h 52 K1 X1) := by
  have go : ∀ {M : JM} {pc : Nat} {ls : List (Option JV)} {st : List JV}, JW D d M pc ls st h (pR D h 52 K0 X) → JW D d M pc ls st h (pR D h 52 K1 X1) := fun z => useR z (fun v h' hI' _ => f1 v h' hI') fun y h' hI' _ => f2 y h' hI'
  obtain ⟨a1, a2, a3, a4, a5, a6, a7, a8, a9, a10⟩ := k
  exact ⟨fun z => go (a1 z), fun z => go (a2 z), fun z => go (a3 z), fun z => go (a4 z), fun z => go (a5 z), fun z => go (a6 z), fun z => go (a7 z), fun z => go (a8 z), fun z => go (a9 z), fun z => go (a10 z)⟩
theorem CkF.kf {lo hi : Nat} (a : CkF sc (NM A ρ lo hi) h h') (t : TreeR D h A ρ) (hI : JInv D h) (hs : jkd h sc = 6) : KF chkK h h' := by
  refine ⟨fun q q1 q2 q3 _ => ?_, by rw [a.2.1.1]; exact Nat.le_refl _, fun q _ => (a.1 q).1, fun o F x y hF => ?_⟩
  · have w := chk_no _ (jkk_lt (hI.1 q q2).2.2) q3
    have nM : ¬ NM A ρ lo hi q := fun ⟨k, _, _, k3, e, _, _⟩ => by
      have nr := t k k3
      rw [← e] at nr
      have nk := nkd_ex (nat_ A k)
      have := nr.2.1
      omega
    have ns : q ≠ sc := fun z => by rw [z] at w; exact w.1 hs
    exact ⟨(a.1 q).1, (a.1 q).2, fun F => ⟨a.2.2.2.2.2 F q (fun _ => ns) (fun _ => nM), a.2.2.2.1 F q, a.2.2.2.2.1 F q fun _ => nM⟩, fun i => ⟨(a.2.2.1 q i).2.1, (a.2.2.1 q i).2.2, (a.2.2.1 q i).1⟩⟩
  · rw [a.2.2.2.2.1 F x (by omega), a.2.2.2.2.1 F y (by omega)]
    exact o F x y hF
/-- kinds of tables and bases are free of K -/
def KTb (K : Nat → Bool) : Prop := (K 5 = false ∧ K 140 = false ∧ K 224 = false ∧ K 96 = false ∧ K 144 = false) ∧ (K 114 = false ∧ K 115 = false ∧ K 139 = false) ∧ (K 225 = false ∧ K 16 = false) ∧ (K 12 = false ∧ K 51 = false ∧ K 66 = false ∧ K 219 = false)
theorem TabR.kf {tb : Tab} (k : TabR D h u tb) (a : KF K h h') (hI : JInv D h) (hK : KTb K) : TabR D h' u tb := by
  have s := a.tbs hI hK.1 k.1
  obtain ⟨k1, k2, k3, k4, k5, k6⟩ := k
  obtain ⟨s1, s2, s3⟩ := s
  refine ⟨k1.of ⟨s1, s2, s3⟩, by rw [s1.fr]; exact a.str hI k2 hK.2.2.2, by rw [s1.fr]; exact k3.kf a hI hK.2.2.1 hK.2.2.2, by rw [s1.fi]; exact k4, by rw [s1.fi]; exact k5, fun i r hr => ?_⟩
  obtain ⟨r1, r2⟩ := k6 i r hr
  have il : i < 100 := by
    have := (List.getElem?_eq_some_iff.mp hr).1
    have := k5.2
    omega
  obtain ⟨t1, t2⟩ := s3 i il r1
  refine ⟨by rw [s1.fr, s2.ar]; exact r1, fun c hc => ?_⟩
  have cl : c < 10 := by have := k3.2.2.2.1; omega
  unfold tce
  rw [s1.fr, s2.ar, t1.ar]
  exact (r2 c hc).of (t2 c cl).1 (t2 c cl).2
theorem BasW.kf (k : BasW D h B) (a : KF K h h') (hI : JInv D h) (hK : KTb K) : BasW D h' B ∧ same h h' B ∧ same h h' (jfr h 40 B) := by
  have a39 : jkd h (jfr h 40 B) = 139 := hI.ref (F := 40) (by decide +kernel) k.2.1.1
  have kB := k.1.2
  have s1 : same h h' B := a.obj hI (by omega) (by omega) (by rcases kB with e | e <;> rw [e]; exact hK.2.1.1; exact hK.2.1.2.1)
  have s2 : same h h' (jfr h 40 B) := a.obj hI (by omega) (by omega) (by rw [a39]; exact hK.2.1.2.2)
  exact ⟨k.of s1 s2 fun j hj => (k.2.2 j hj).of (a.tbs hI hK.1 (k.2.2 j hj)), s1, s2⟩
theorem BasR.kf (k : BasR D h B T) (a : KF K h h') (hI : JInv D h) (hK : KTb K) : BasR D h' B T := by
  obtain ⟨k1, k2, k3⟩ := k
  obtain ⟨b1, s1, s2⟩ := k1.kf a hI hK
  refine ⟨b1, by rw [s1.fi]; exact k2, fun j tb ht => ?_⟩
  have : tba h' B j = tba h B j := by unfold tba; rw [s1.fr, s2.ar]
  rw [this]
  exact (k3 j tb ht).kf a hI hK
theorem ktb_chk : KTb chkK := ⟨⟨rfl, rfl, rfl, rfl, rfl⟩, ⟨rfl, rfl, rfl⟩, ⟨rfl, rfl⟩, ⟨rfl, rfl, rfl, rfl⟩⟩
/-- a condition is checked -/
theorem w_truth {o : Option Nat} (hA : NOK A) (ri : RI ρ A.length) (hn : (E.1.map (·.1)).Nodup) (tr : TreeR D h A ρ) (sC : ScC D h sc E) (hw : jfi h 52 sc = 0) (ol : ∀ x, o = some x → x < A.length ∧ HB A n x) (kr : OtR ρ r o) (hd : n + 13 ≤ d) :
    cX20_truth D d r sc h (pV D h (fun h' => tCond A E o = .ok () ∧ CkF sc (NM A ρ 0 A.length) h h' ∧ jfi h' 52 sc = 0 ∧ ∀ x, o = some x → PlA A E h' ρ x) (fun z h' => ∃ c hm, tCond A E o = .error c ∧ CkF sc (NM A ρ 0 A.length) h hm ∧ Flt hm h' z c)) := by
  obtain ⟨d, rfl, he⟩ := dsucc (show 1 ≤ d by omega)
  cases o with
  | none =>
    have kr : r = 0 := kr
    subst kr
    exact t_X20_truth ⟨fun _ => endV fun _ _ => ⟨rfl, CkF.rf, hw, fun x hx => by cases hx⟩, fun z => absurd rfl z⟩
  | some x =>
    have kr : r = ρ x := kr
    subst kr
    obtain ⟨xl, hB⟩ := ol x rfl
    have up : ∀ {h1 : JH}, CkF sc (NM A ρ (ndL (nat_ A x)) (x + 1)) h h1 → CkF sc (NM A ρ 0 A.length) h h1 := fun z => z.mono fun q hq => hq.mono (by omega) (by omega)
    refine t_X20_truth ⟨fun z => absurd z (tr x xl).1, fun _ => useCk1 (w_check hA ri hn (x + 1) x false h d n (by omega) xl hB (by omega) tr sC hw) ?_ ?_⟩
    · rintro v1 h1 hI1 ⟨t, t1, rfl, t3, t4, t5, t6, t7⟩
      have et : tCond A E (some x) = tFits t 16 := by
        show (tType A E x >>= fun t => tFits t 16) = _
        unfold tType
        rw [t1]; rfl
      show cX24_need D d (tyc D t) (tyc D 16) h1 _
      refine useV (w_tneed t3 (Or.inr (Or.inl rfl)) (by omega)) ?_ ?_
      · rintro h2 hI2 _ ⟨f1, he2⟩
        have he2 := he2.symm
        subst he2
        exact endV fun _ _ => ⟨et.trans f1, up t5, by rw [t6]; exact hw, fun x' hx' => by cases hx'; exact PlT.all hA _ _ (Nat.lt_succ_self _) xl t7⟩
      · rintro z h2 hI2 _ ⟨f1, f2⟩
        exact fun _ _ => ⟨_, h1, et.trans f1, up t5, f2⟩
    · rintro z h1 hI1 ⟨c, hm, c1, c2, c3⟩
      refine fun _ _ => ⟨c, hm, ?_, up c2, c3⟩
      show (tType A E x >>= fun t => tFits t 16) = _
      unfold tType
      rw [c1]; rfl
/-- the scope before names are known -/
def ScP (D : JD) (h : JH) (sc : Nat) (pt : List Nat) : Prop := (sc ≠ 0 ∧ jkd h sc = 6) ∧ (jfr h 47 sc ≠ 0 ∧ jln h (jfr h 47 sc) = 3) ∧ (jfr h 49 sc ≠ 0 ∧ jln h (jfr h 49 sc) = pt.length ∧ pt.length ≤ 8 ∧ ∀ k t, pt[k]? = some t → jar h (jfr h 49 sc) k = tyc D t ∧ TyOk t) ∧ jfi h 51 sc = 0 ∧ jfi h 52 sc = 0
/-- types of columns are types -/
def TbT (T : List Tab) : Prop := ∀ tb ∈ T, ∀ c ∈ tb.2.1, TyOk c.2.1
theorem TabR.tabC {tb : Tab} (k : TabR D h u tb) (ht : ∀ c ∈ tb.2.1, TyOk c.2.1) : TabC D h u tb.2.1 := by
  obtain ⟨k1, k2, ⟨c1, c2, c3, c4, c5⟩, k4, k5, k6⟩ := k
  exact ⟨k1.1.1, by rw [k1.1.2]; rfl, c1, k4, by omega, by omega, fun i v hv => ⟨c5 i v hv, ht v (List.mem_of_getElem? hv)⟩⟩
/-- the table of a source is written -/
theorem SF.w138 (hI : JInv D h) (hr : jkd h r = 31) : SF D h (wfr h 138 r u) := by
  have sm : ∀ q, jkd h q ≠ 31 → same h (wfr h 138 r u) q := fun q hq => same_wfr fun z => hq (by rw [z]; exact hr)
  have cs : ∀ c, CelW D h c → same h (wfr h 138 r u) c ∧ (jfr h 67 c ≠ 0 → same h (wfr h 138 r u) (jfr h 67 c)) := fun c cw => by
    have kc := cw.kd
    refine ⟨sm c (by omega), fun z => ?_⟩
    have := (cw.2.2.2.2.resolve_left z).1
    exact sm _ (by omega)
  have ef : ∀ F q, F ≠ 138 → jfr (wfr h 138 r u) F q = jfr h F q := fun F q hF => by rw [jfr_wfr, if_neg (fun z => hF z.1)]
  refine ⟨fun _ _ => rfl, fun q _ _ => ⟨rfl, fun F => ⟨fun _ => rfl, rfl, fun g _ => ef F q fun z => by rw [z] at g; cases g⟩, fun _ _ => ⟨rfl, rfl⟩, fun _ _ _ => rfl, fun _ _ _ => rfl⟩, fun q _ => ef 109 q (by decide), fun q _ cw => cs _ cw, fun c _ _ cw => cs c cw, fun c _ cw => cw.of (cs c cw).1 (cs c cw).2, fun q w k => ?_, fun o F x y hF => ?_, Nat.le_refl _⟩
  · have z1 := k.2.1
    have z2 := k.2.2.2.2.1
    exact k.of (sm q (by omega)) (sm _ (by omega))
  · rw [ef F x (by omega), ef F y (by omega)]
    exact o F x y hF
def scK (k : Nat) : Bool := Nat.beq k 6 || Nat.beq k 141
theorem scK_w : ∀ k, scK k = true → wkd k = true ∧ k ≠ 12 ∧ k ≠ 98 ∧ k ≠ 99 ∧ k ≠ 144 := fun k e => by
  unfold scK at e
  simp only [Bool.or_eq_true, Nat.beq_eq] at e
  rcases e with e | e <;> rw [e] <;> decide
theorem w_known {w : Str} (eb : EnT D h e T) (hsc : jfr h 23 e = sc) (sp : ScP D h sc pt) (hT : TbT T) (kv : RwR h v w) (vk : jkd h v = 30 ∨ jkd h v = 32) (v0 : v ≠ 0) (hd : 9 ≤ d) :
    cX36_known D d v e h (pV D h (fun h' => ∃ k, tbNeed T w = .ok k ∧ k < T.length ∧ jfr h' 138 (jfr h 130 v) = tba h (jfr h 20 e) k ∧ ScC D h' sc ([(w, tbGet T k)], pt, false) ∧ jfi h' 52 sc = 0 ∧ KF chkK h h' ∧ SF D h h' ∧ (∀ F q, F ≠ 138 → jfr h' F q = jfr h F q) ∧ jsz h' = jsz h ∧ jus h' = jus h) (fun z h' => tbNeed T w = .error (sStr "42P01") ∧ Flt h h' z (sStr "42P01"))) := by
  obtain ⟨d, rfl, he⟩ := dsucc hd
  obtain ⟨n1, s0, s1, s2, s3, s4⟩ := kv
  refine JW.inv fun hI => t_X36_known ⟨v0, eb.1.1, eb.2.1, useR (w_needed eb.2.2 n1 (by omega)) ?_ ?_⟩
  · rintro t h3 hI3 _ ⟨he3, k, e1, kl, e2, rfl⟩
    have he3 := he3.symm
    subst he3
    have l4 := eb.2.2.2.1.2
    have tr := eb.2.2.2.2 k _ (List.getElem?_eq_getElem kl)
    have tg : tbGet T k = T[k] := by unfold tbGet; rw [List.getD_eq_getElem?_getD, List.getElem?_eq_getElem kl]; rfl
    have k41 : jkd h (jfr h 47 sc) = 141 := hI.ref (F := 47) (by decide +kernel) sp.2.1.1
    refine ⟨s0, ?_⟩
    rintro h8 rfl
    have ef : ∀ F q, F ≠ 138 → jfr (wfr h 138 (jfr h 130 v) (tba h (jfr h 20 e) k)) F q = jfr h F q := fun F q hF => by rw [jfr_wfr, if_neg (fun z => hF z.1)]
    rw [ef 23 e (by decide), hsc, ef 47 sc (by decide), ef 130 v (by decide)]
    refine ⟨sp.1.1, sp.2.1.1, by rw [jln_wfr, sp.2.1.2]; exact jin_nI (n := 0) (by decide) (by decide), ?_⟩
    rintro h13 rfl
    rw [show jfr (war (wfr h 138 (jfr h 130 v) (tba h (jfr h 20 e) k)) (jfr h 47 sc) (ixn 0) (jfr h 130 v)) 23 e = sc from (ef 23 e (by decide)).trans hsc]
    refine ⟨sp.1.1, ?_⟩
    rintro h16 rfl
    have hI8 : JInv D (wfr h 138 (jfr h 130 v) (tba h (jfr h 20 e) k)) := hI.wfr (hI.2.1 _ (by rw [s1]; rfl)) (hI.lt (by rw [s1]; decide)) (Or.inr (by rw [tr.1.1.2]; rfl))
    have a1 : SF D h (wfr h 138 (jfr h 130 v) (tba h (jfr h 20 e) k)) := SF.w138 hI s1
    have kf2 : KF scK (wfr h 138 (jfr h 130 v) (tba h (jfr h 20 e) k)) (wfi (war (wfr h 138 (jfr h 130 v) (tba h (jfr h 20 e) k)) (jfr h 47 sc) (ixn 0) (jfr h 130 v)) 48 sc 1) := by
      refine ⟨fun q _ q2 q3 _ => (same_war fun z => ?_).tr (same_wfi fun z => ?_), Nat.le_refl _, fun _ _ => rfl, fun o => o⟩
      · have q3 : scK (jkd h q) = false := q3
        rw [z, k41] at q3; cases q3
      · have q3 : scK (jkd h q) = false := q3
        rw [z, sp.1.2] at q3; cases q3
    have sf := a1.tr (kf2.sf hI8 scK_w) hI8
    have kf : KF chkK h (wfi (war (wfr h 138 (jfr h 130 v) (tba h (jfr h 20 e) k)) (jfr h 47 sc) (ixn 0) (jfr h 130 v)) 48 sc 1) := by
      refine ⟨fun q _ q2 q3 _ => ((same_wfr fun z => ?_).tr (same_war fun z => ?_)).tr (same_wfi fun z => ?_), Nat.le_refl _, fun _ _ => rfl, fun o F x y hF => ?_⟩
      · rw [z, s1] at q3; cases q3
      · rw [z, k41] at q3; cases q3
      · rw [z, sp.1.2] at q3; cases q3
      · show jfr (wfr h 138 _ _) F x = jfr (wfr h 138 _ _) F y → _ → _
        rw [ef F x (by omega), ef F y (by omega)]
        intro g1 g2
        exact o F x y hF g1 (by
          have g2 : jfr (wfr h 138 (jfr h 130 v) (tba h (jfr h 20 e) k)) F x ≠ 0 := g2
          rw [ef F x (by omega)] at g2
          exact g2)
    have e138 : jfr (wfr h 138 (jfr h 130 v) (tba h (jfr h 20 e) k)) 138 (jfr h 130 v) = tba h (jfr h 20 e) k := by rw [jfr_wfr, if_pos ⟨rfl, rfl⟩]
    refine endV fun _ _ => ⟨k, e1, kl, e138, ?_, ?_, kf, sf, ef, rfl, rfl⟩
    · refine ⟨sp.1, ⟨?_, ?_, ?_, (show 1 ≤ 3 by decide), fun j q hq => ?_⟩, ?_, ?_⟩
      · exact fun z => sp.2.1.1 ((ef 47 sc (by decide)).symm.trans z)
      · show jln h (jfr (wfr h 138 (jfr h 130 v) (tba h (jfr h 20 e) k)) 47 sc) = 3
        rw [ef 47 sc (by decide)]; exact sp.2.1.2
      · rw [jfi_wfi, if_pos ⟨rfl, rfl⟩]; rfl
      · cases j with
        | succ j => simp at hq
        | zero =>
          simp only [List.getElem?_cons_zero, Option.some.injEq] at hq
          subst hq
          have ea : jar (wfi (war (wfr h 138 (jfr h 130 v) (tba h (jfr h 20 e) k)) (jfr h 47 sc) (ixn 0) (jfr h 130 v)) 48 sc 1) (jfr (wfi (war (wfr h 138 (jfr h 130 v) (tba h (jfr h 20 e) k)) (jfr h 47 sc) (ixn 0) (jfr h 130 v)) 48 sc 1) 47 sc) 0 = jfr h 130 v := by
            show jar (war (wfr h 138 (jfr h 130 v) (tba h (jfr h 20 e) k)) (jfr h 47 sc) (ixn 0) (jfr h 130 v)) (jfr (wfr h 138 (jfr h 130 v) (tba h (jfr h 20 e) k)) 47 sc) 0 = _
            rw [ef 47 sc (by decide), jar_war, if_pos ⟨rfl, rfl⟩]
          rw [ea]
          refine ⟨s0, s1, ?_, ?_⟩
          · show StR _ (jfr (wfr h 138 (jfr h 130 v) (tba h (jfr h 20 e) k)) 136 (jfr h 130 v)) w
            rw [ef 136 _ (by decide)]
            exact kf.str hI s2 ⟨rfl, rfl, rfl, rfl⟩
          · show TabC D _ (jfr (wfr h 138 (jfr h 130 v) (tba h (jfr h 20 e) k)) 138 (jfr h 130 v)) (tbGet T k).2.1
            rw [e138, tg]
            exact (tr.kf kf hI ktb_chk).tabC (hT _ (List.getElem_mem kl))
      · obtain ⟨p1, p2, p3, p4⟩ := sp.2.2.1
        have e9 : jfr (wfi (war (wfr h 138 (jfr h 130 v) (tba h (jfr h 20 e) k)) (jfr h 47 sc) (ixn 0) (jfr h 130 v)) 48 sc 1) 49 sc = jfr h 49 sc := ef 49 sc (by decide)
        rw [e9]
        refine ⟨p1, p2, p3, fun j t ht => ?_⟩
        obtain ⟨x1, x2⟩ := p4 j t ht
        refine ⟨?_, x2⟩
        have ne : jfr h 49 sc ≠ jfr h 47 sc := fun z => by
          have k49 : sbt (jkd h (jfr h 49 sc)) (ftg 49) = true := Or.resolve_left (hI.2.2.1 49 sc) p1
          rw [z, k41] at k49
          exact absurd k49 (by decide +kernel)
        rw [show jar (wfi (war (wfr h 138 (jfr h 130 v) (tba h (jfr h 20 e) k)) (jfr h 47 sc) (ixn 0) (jfr h 130 v)) 48 sc 1) (jfr h 49 sc) j = jar h (jfr h 49 sc) j from by
          show jar (war (wfr h 138 (jfr h 130 v) (tba h (jfr h 20 e) k)) (jfr h 47 sc) (ixn 0) (jfr h 130 v)) (jfr h 49 sc) j = _
          rw [jar_war, if_neg (fun z => ne z.1)]
          rfl]
        exact x1
      · rw [jfi_wfi, if_neg (by omega)]
        exact sp.2.2.2.1
    · rw [jfi_wfi, if_neg (by omega)]
      exact sp.2.2.2.2
  · rintro z h3 hI3 _ ⟨e1, f⟩
    exact fun _ _ => ⟨e1, f⟩
/-- DELETE is checked -/
theorem w_delCk (hA : NOK (smA y)) (ri : RI ρ (smA y).length) (tr : TreeR D h (smA y) ρ) (eb : EnT D h e T) (hsc : jfr h 23 e = sc) (sp : ScP D h sc pt) (hT : TbT T) (kd : DelR h ρ v y) (y0 : smK y = 4) (ol : ∀ x, smW y = some x → x < (smA y).length ∧ HB (smA y) n x) (hd : n + 20 ≤ d) :
    cX39_check D d v e h (pV D h (fun h' => cOther T pt y = .ok [] ∧ KF chkK h h' ∧ SF D h h' ∧ (jsz h' = jsz h ∧ jus h' = jus h) ∧ ∃ k, tbNeed T (smT y) = .ok k ∧ k < T.length ∧ jfr h' 138 (jfr h' 130 v) = tba h' (jfr h' 20 e) k ∧ ScC D h' sc ([(smT y, tbGet T k)], pt, false) ∧ ∀ x, smW y = some x → PlA (smA y) ([(smT y, tbGet T k)], pt, false) h' ρ x) (fun z h' => ∃ c hm, cOther T pt y = .error c ∧ KF chkK h hm ∧ SF D h hm ∧ (jsz hm = jsz h ∧ jus hm = jus h) ∧ Flt hm h' z c)) := by
  obtain ⟨d, rfl, he⟩ := dsucc (show 1 ≤ d by omega)
  have eo : cOther T pt y = (tbNeed T (smT y) >>= fun k => tCond (smA y) ([(smT y, tbGet T k)], pt, false) (smW y) >>= fun _ => .ok []) := by
    unfold cOther
    rw [y0]; rfl
  refine JW.inv fun hI => t_X39_check ⟨kd.1, useV (w_known eb hsc sp hT kd.2.2.1 (Or.inr kd.2.1) kd.1 (by omega)) ?_ ?_⟩
  · rintro h1 hI1 _ ⟨k, e1, kl, e2, sC, w5, kf, sf, ef, z1, z2⟩
    have tr1 := tr.sf sf hA hI
    have s6 := sC.1.2
    refine ⟨eb.1.1, ?_⟩
    rw [ef 131 v (by decide), ef 23 e (by decide), hsc]
    rw [e1, ok_bind] at eo
    refine useV (w_truth hA ri (by simp) tr1 sC w5 ol kd.2.2.2 (by omega)) ?_ ?_
    · rintro h2 hI2 _ ⟨t1, t2, t3, t4⟩
      have kf2 := t2.kf tr1 hI1 s6
      have fr : ∀ F q, F ≠ 109 → jfr h2 F q = jfr h1 F q := fun F q hF => t2.2.2.2.2.1 F q fun z => absurd z hF
      refine endV fun _ _ => ⟨by rw [eo, t1]; rfl, kf.tr kf2, sf.tr (t2.sf hA hI1 tr1 s6) hI1, ⟨t2.2.1.1.trans z1, t2.2.1.2.trans z2⟩, k, e1, kl, ?_, sC.ck t2 tr1.nd, t4⟩
      unfold tba
      rw [fr 130 v (by decide), fr 138 _ (by decide), fr 20 e (by decide), fr 40 _ (by decide), ef 130 v (by decide), e2, ef 20 e (by decide), ef 40 _ (by decide)]
      have s2 := (eb.2.2.1.kf (kf.tr kf2) hI ktb_chk).2.2
      rw [s2.ar]
      rfl
    · rintro z h2 hI2 _ ⟨c, hm, c1, c2, c3⟩
      have kf2 := c2.kf tr1 hI1 s6
      exact fun _ _ => ⟨c, hm, by rw [eo, c1]; rfl, kf.tr kf2, sf.tr (c2.sf hA hI1 tr1 s6) hI1, ⟨c2.2.1.1.trans z1, c2.2.1.2.trans z2⟩, c3⟩
  · rintro z h1 hI1 _ ⟨e1, f⟩
    exact fun _ _ => ⟨_, h, by rw [eo, e1]; rfl, KF.rf, SF.rf, ⟨rfl, rfl⟩, f⟩
end
