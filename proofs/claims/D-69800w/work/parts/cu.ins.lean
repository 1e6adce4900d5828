/-! the component: INSERT is checked -/
section
variable {D : JD} {h h' h'' h0 h1 h2 : JH} {ρ : Nat → Nat} {A : List Nod} {E : TEnv} {q c r i v k j d e sc n B u arr tb : Nat} {y : Stm} {T : List Tab} {pt : List Nat} {ns : List Str} {xs ps : List Nat} {cs : List Col} {rs : List (List Nat)}
/-- a fault with a place is made -/
theorem w_faultP {Q : JO → JH → Prop} {j : Nat} {w : String} {p : Int32} (hj : j < 345 ∧ jcon j = sStr w) (hI : JInv D h) (hd : 6 ≤ d) (f : ∀ r h', JInv D h' → FtR h' r (sStr w) p → New h h' 1 8 → Q (.inr r) h') :
    ∀ (r : Nat) (h1 : JH), r = jsz h + 1 → h1 = nwo h 9 8 → cX16_init D d r (jcs D j) p h1 (pV D h1 (fun h' => Q (.inr r) h') (jth Q)) := by
  rintro r h1 rfl rfl
  have kc : StR h (jcs D j) (sStr w) := by rw [← hj.2]; exact k_const hI hj.1
  have hl := kc.lt hI
  have hs : StR (nwo h 9 8) (jcs D j) (sStr w) := kc.of (same_nwo hl.1) (same_nwo hl.2)
  refine JW.up (n := 6) (fun z => useV0 (k_faultInit (d := z) (Nat.succ_ne_zero _) (by simp only [jkd_wfi, jln_wfi, jfi_wfi, jfl_wfi, jfr_wfi, jai_wfi, jal_wfi, jar_wfi, jsz_wfi, jus_wfi, jkd_wfl, jln_wfl, jfi_wfl, jfl_wfl, jfr_wfl, jai_wfl, jal_wfl, jar_wfl, jsz_wfl, jus_wfl, jkd_wfr, jln_wfr, jfi_wfr, jfl_wfr, jfr_wfr, jai_wfr, jal_wfr, jar_wfr, jsz_wfr, jus_wfr, jkd_wai, jln_wai, jfi_wai, jfl_wai, jfr_wai, jai_wai, jal_wai, jar_wai, jsz_wai, jus_wai, jkd_wal, jln_wal, jfi_wal, jfl_wal, jfr_wal, jai_wal, jal_wal, jar_wal, jsz_wal, jus_wal, jkd_war, jln_war, jfi_war, jfl_war, jfr_war, jai_war, jal_war, jar_war, jsz_war, jus_war, jkd_nwo, jln_nwo, jfi_nwo, jfl_nwo, jfr_nwo, jai_nwo, jal_nwo, jar_nwo, jsz_nwo, jus_nwo, jkd_nwa, jln_nwa, jfi_nwa, jfl_nwa, jfr_nwa, jai_nwa, jal_nwa, jar_nwa, jsz_nwa, jus_nwa, jkd_cpa, jln_cpa, jfi_cpa, jfl_cpa, jfr_cpa, jai_cpa, jal_cpa, jar_cpa, jsz_cpa, jus_cpa, if_true]) (by simp only [jkd_wfi, jln_wfi, jfi_wfi, jfl_wfi, jfr_wfi, jai_wfi, jal_wfi, jar_wfi, jsz_wfi, jus_wfi, jkd_wfl, jln_wfl, jfi_wfl, jfl_wfl, jfr_wfl, jai_wfl, jal_wfl, jar_wfl, jsz_wfl, jus_wfl, jkd_wfr, jln_wfr, jfi_wfr, jfl_wfr, jfr_wfr, jai_wfr, jal_wfr, jar_wfr, jsz_wfr, jus_wfr, jkd_wai, jln_wai, jfi_wai, jfl_wai, jfr_wai, jai_wai, jal_wai, jar_wai, jsz_wai, jus_wai, jkd_wal, jln_wal, jfi_wal, jfl_wal, jfr_wal, jai_wal, jal_wal, jar_wal, jsz_wal, jus_wal, jkd_war, jln_war, jfi_war, jfl_war, jfr_war, jai_war, jal_war, jar_war, jsz_war, jus_war, jkd_nwo, jln_nwo, jfi_nwo, jfl_nwo, jfr_nwo, jai_nwo, jal_nwo, jar_nwo, jsz_nwo, jus_nwo, jkd_nwa, jln_nwa, jfi_nwa, jfl_nwa, jfr_nwa, jai_nwa, jal_nwa, jar_nwa, jsz_nwa, jus_nwa, jkd_cpa, jln_cpa, jfi_cpa, jfl_cpa, jfr_cpa, jai_cpa, jal_cpa, jar_cpa, jsz_cpa, jus_cpa]; exact hI.zi (by omega) 330) hs) ?_) hd
  rintro h2 hI2 _ ⟨f1, f2, f3, f4, f5⟩
  refine f _ h2 hI2 f1 ⟨(fr_nwo (Nat.le_refl _)).tr (f2.mono (by simp only [jkd_wfi, jln_wfi, jfi_wfi, jfl_wfi, jfr_wfi, jai_wfi, jal_wfi, jar_wfi, jsz_wfi, jus_wfi, jkd_wfl, jln_wfl, jfi_wfl, jfl_wfl, jfr_wfl, jai_wfl, jal_wfl, jar_wfl, jsz_wfl, jus_wfl, jkd_wfr, jln_wfr, jfi_wfr, jfl_wfr, jfr_wfr, jai_wfr, jal_wfr, jar_wfr, jsz_wfr, jus_wfr, jkd_wai, jln_wai, jfi_wai, jfl_wai, jfr_wai, jai_wai, jal_wai, jar_wai, jsz_wai, jus_wai, jkd_wal, jln_wal, jfi_wal, jfl_wal, jfr_wal, jai_wal, jal_wal, jar_wal, jsz_wal, jus_wal, jkd_war, jln_war, jfi_war, jfl_war, jfr_war, jai_war, jal_war, jar_war, jsz_war, jus_war, jkd_nwo, jln_nwo, jfi_nwo, jfl_nwo, jfr_nwo, jai_nwo, jal_nwo, jar_nwo, jsz_nwo, jus_nwo, jkd_nwa, jln_nwa, jfi_nwa, jfl_nwa, jfr_nwa, jai_nwa, jal_nwa, jar_nwa, jsz_nwa, jus_nwa, jkd_cpa, jln_cpa, jfi_cpa, jfl_cpa, jfr_cpa, jai_cpa, jal_cpa, jar_cpa, jsz_cpa, jus_cpa]; omega) fun q hq e => by omega), ?_, ?_, ?_, fun F q hF => (f5 F q hF).trans rfl⟩
  · rw [f3]; simp only [jkd_wfi, jln_wfi, jfi_wfi, jfl_wfi, jfr_wfi, jai_wfi, jal_wfi, jar_wfi, jsz_wfi, jus_wfi, jkd_wfl, jln_wfl, jfi_wfl, jfl_wfl, jfr_wfl, jai_wfl, jal_wfl, jar_wfl, jsz_wfl, jus_wfl, jkd_wfr, jln_wfr, jfi_wfr, jfl_wfr, jfr_wfr, jai_wfr, jal_wfr, jar_wfr, jsz_wfr, jus_wfr, jkd_wai, jln_wai, jfi_wai, jfl_wai, jfr_wai, jai_wai, jal_wai, jar_wai, jsz_wai, jus_wai, jkd_wal, jln_wal, jfi_wal, jfl_wal, jfr_wal, jai_wal, jal_wal, jar_wal, jsz_wal, jus_wal, jkd_war, jln_war, jfi_war, jfl_war, jfr_war, jai_war, jal_war, jar_war, jsz_war, jus_war, jkd_nwo, jln_nwo, jfi_nwo, jfl_nwo, jfr_nwo, jai_nwo, jal_nwo, jar_nwo, jsz_nwo, jus_nwo, jkd_nwa, jln_nwa, jfi_nwa, jfl_nwa, jfr_nwa, jai_nwa, jal_nwa, jar_nwa, jsz_nwa, jus_nwa, jkd_cpa, jln_cpa, jfi_cpa, jfl_cpa, jfr_cpa, jai_cpa, jal_cpa, jar_cpa, jsz_cpa, jus_cpa]; omega
  · rw [f3]; simp only [jkd_wfi, jln_wfi, jfi_wfi, jfl_wfi, jfr_wfi, jai_wfi, jal_wfi, jar_wfi, jsz_wfi, jus_wfi, jkd_wfl, jln_wfl, jfi_wfl, jfl_wfl, jfr_wfl, jai_wfl, jal_wfl, jar_wfl, jsz_wfl, jus_wfl, jkd_wfr, jln_wfr, jfi_wfr, jfl_wfr, jfr_wfr, jai_wfr, jal_wfr, jar_wfr, jsz_wfr, jus_wfr, jkd_wai, jln_wai, jfi_wai, jfl_wai, jfr_wai, jai_wai, jal_wai, jar_wai, jsz_wai, jus_wai, jkd_wal, jln_wal, jfi_wal, jfl_wal, jfr_wal, jai_wal, jal_wal, jar_wal, jsz_wal, jus_wal, jkd_war, jln_war, jfi_war, jfl_war, jfr_war, jai_war, jal_war, jar_war, jsz_war, jus_war, jkd_nwo, jln_nwo, jfi_nwo, jfl_nwo, jfr_nwo, jai_nwo, jal_nwo, jar_nwo, jsz_nwo, jus_nwo, jkd_nwa, jln_nwa, jfi_nwa, jfl_nwa, jfr_nwa, jai_nwa, jal_nwa, jar_nwa, jsz_nwa, jus_nwa, jkd_cpa, jln_cpa, jfi_cpa, jfl_cpa, jfr_cpa, jai_cpa, jal_cpa, jar_cpa, jsz_cpa, jus_cpa]; omega
  · rw [f4]; simp only [jkd_wfi, jln_wfi, jfi_wfi, jfl_wfi, jfr_wfi, jai_wfi, jal_wfi, jar_wfi, jsz_wfi, jus_wfi, jkd_wfl, jln_wfl, jfi_wfl, jfl_wfl, jfr_wfl, jai_wfl, jal_wfl, jar_wfl, jsz_wfl, jus_wfl, jkd_wfr, jln_wfr, jfi_wfr, jfl_wfr, jfr_wfr, jai_wfr, jal_wfr, jar_wfr, jsz_wfr, jus_wfr, jkd_wai, jln_wai, jfi_wai, jfl_wai, jfr_wai, jai_wai, jal_wai, jar_wai, jsz_wai, jus_wai, jkd_wal, jln_wal, jfi_wal, jfl_wal, jfr_wal, jai_wal, jal_wal, jar_wal, jsz_wal, jus_wal, jkd_war, jln_war, jfi_war, jfl_war, jfr_war, jai_war, jal_war, jar_war, jsz_war, jus_war, jkd_nwo, jln_nwo, jfi_nwo, jfl_nwo, jfr_nwo, jai_nwo, jal_nwo, jar_nwo, jsz_nwo, jus_nwo, jkd_nwa, jln_nwa, jfi_nwa, jfl_nwa, jfr_nwa, jai_nwa, jal_nwa, jar_nwa, jsz_nwa, jus_nwa, jkd_cpa, jln_cpa, jfi_cpa, jfl_cpa, jfr_cpa, jai_cpa, jal_cpa, jar_cpa, jsz_cpa, jus_cpa]; omega
/-- the table of INSERT is written -/
theorem SF.w107 (hr : jkd h r = 19) : SF D h (wfr h 107 r u) := by
  have sm : ∀ q, jkd h q ≠ 19 → same h (wfr h 107 r u) q := fun q hq => same_wfr fun z => hq (by rw [z]; exact hr)
  have cs : ∀ c, CelW D h c → same h (wfr h 107 r u) c ∧ (jfr h 67 c ≠ 0 → same h (wfr h 107 r u) (jfr h 67 c)) := fun c cw => by
    have kc := cw.kd
    refine ⟨sm c (by omega), fun z => ?_⟩
    have := (cw.2.2.2.2.resolve_left z).1
    exact sm _ (by omega)
  have ef : ∀ F q, F ≠ 107 → jfr (wfr h 107 r u) F q = jfr h F q := fun F q hF => by rw [jfr_wfr, if_neg (fun z => hF z.1)]
  refine ⟨fun _ _ => rfl, fun q _ _ => ⟨rfl, fun F => ⟨fun _ => rfl, rfl, fun g _ => ef F q fun z => by rw [z] at g; cases g⟩, fun _ _ => ⟨rfl, rfl⟩, fun _ _ _ => rfl, fun _ _ _ => rfl⟩, fun q _ => ef 109 q (by decide), fun q _ cw => cs _ cw, fun c _ _ cw => cs c cw, fun c _ cw => cw.of (cs c cw).1 (cs c cw).2, fun q w k => ?_, fun o F x y hF => ?_, Nat.le_refl _⟩
  · have z1 := k.2.1
    have z2 := k.2.2.2.2.1
    exact k.of (sm q (by omega)) (sm _ (by omega))
  · rw [ef F x (by omega), ef F y (by omega)]
    exact o F x y hF
theorem KF.w107 (hr : jkd h r = 19) : KF chkK h (wfr h 107 r u) := by
  have ef : ∀ F q, F ≠ 107 → jfr (wfr h 107 r u) F q = jfr h F q := fun F q hF => by rw [jfr_wfr, if_neg (fun z => hF z.1)]
  refine ⟨fun q _ _ q3 _ => same_wfr fun z => ?_, Nat.le_refl _, fun _ _ => rfl, fun o F x y hF => ?_⟩
  · rw [z, hr] at q3; cases q3
  · rw [ef F x (by omega), ef F y (by omega)]
    exact o F x y hF
theorem ScC.w107 (k : ScC D h sc E) (hr : jkd h r = 19) : ScC D (wfr h 107 r u) sc E := by
  have ef : ∀ F q, F ≠ 107 → jfr (wfr h 107 r u) F q = jfr h F q := fun F q hF => by rw [jfr_wfr, if_neg (fun z => hF z.1)]
  have st : ∀ q w, StR h q w → StR (wfr h 107 r u) q w := (SF.w107 (D := D) hr).2.2.2.2.2.2.1
  obtain ⟨k1, ⟨k3, k4, k5, k6, k7⟩, k8, k12⟩ := k
  refine ⟨k1, ⟨by rw [ef 47 _ (by decide)]; exact k3, by rw [ef 47 _ (by decide)]; exact k4, k5, k6, fun j q hq => ?_⟩, by rw [ef 49 _ (by decide)]; exact k8, k12⟩
  obtain ⟨a1, a2, a3, ⟨t1, t2, t3, t4, t5, t6, t7⟩⟩ := k7 j q hq
  rw [ef 47 _ (by decide)]
  refine ⟨a1, a2, by rw [ef 136 _ (by decide)]; exact st _ _ a3, ?_⟩
  rw [show jar (wfr h 107 r u) (jfr h 47 sc) j = jar h (jfr h 47 sc) j from rfl, ef 138 _ (by decide)]
  refine ⟨t1, t2, by rw [ef 43 _ (by decide)]; exact t3, t4, by rw [ef 43 _ (by decide)]; exact t5, by rw [ef 43 _ (by decide)]; exact t6, fun i v hv => ?_⟩
  obtain ⟨⟨c1, c2, c3, c4, c5, c6⟩, c7⟩ := t7 i v hv
  rw [ef 43 _ (by decide)]
  exact ⟨⟨c1, c2, by rw [ef 92 _ (by decide)]; exact st _ _ c3, by rw [ef 93 _ (by decide)]; exact c4, c5, c6⟩, c7⟩
/-- no two places are alike -/
theorem w_insJ {Q : JO → JH → Prop} {K39 : Nat → Nat → Int32 → Int32 → JH → Prop} {p : Nat} {x2 : Int32} (v0 : v ≠ 0) (ea : jfr h 106 v = arr) (a0 : arr ≠ 0) (al : jln h arr = 10) (pl : k < 10) (lp : ps.length = k) (hp : ∀ (j z : Nat), (ps ++ [p])[j]? = some z → jai h arr j = nI z ∧ z < 100) (hd : 7 ≤ d)
    (f1 : ps.contains p = false → K39 v e x2 (nI (k + 1)) h) (f2 : ∀ z h', JInv D h' → ps.contains p = true → Flt h h' z (sStr "42701") → Q (.inr z) h') :
    ∀ (m j : Nat), j + m = k → ps.contains p = (ps.drop j).contains p → L_X23_check_92 D d Q K39 (m + 1) v e x2 (nI k) (nI j) h
  | m, j, hjm, eq => by
    refine ⟨fun g => ?_, fun g => ⟨v0, ?_⟩⟩
    · have := (nI_leI (by omega) (by omega)).mp g
      have : j = k := by omega
      subst this
      rw [List.drop_eq_nil_of_le (by omega)] at eq
      rw [nI_1]
      exact f1 eq
    · have jl : j < k := Nat.lt_of_not_le fun z => g ((nI_leI (by omega) (by omega)).mpr z)
      obtain ⟨m', rfl⟩ : ∃ m', m = m' + 1 := ⟨m - 1, by omega⟩
      have hj : (ps ++ [p])[j]? = some (ps[j]'(by omega)) := by rw [List.getElem?_append, if_pos (by omega)]; exact List.getElem?_eq_getElem (by omega)
      have hk : (ps ++ [p])[k]? = some p := by rw [List.getElem?_append, if_neg (by omega), show k - ps.length = 0 by omega]; rfl
      obtain ⟨x1, x2⟩ := hp j _ hj
      obtain ⟨z1, z2⟩ := hp k p hk
      rw [List.drop_eq_getElem_cons (by omega), List.contains_cons] at eq
      have ixj : ixn (nI j) = j := ixn_nI (by omega)
      have ixk : ixn (nI k) = k := ixn_nI (by omega)
      rw [ea, al, ixj, ixk, x1, z1]
      refine ⟨a0, jin_nI (by omega) (by decide), jin_nI (by omega) (by decide), fun g => ?_, fun g => ?_⟩
      · rw [nI_1]
        have ne : (p == ps[j]) = false := by simpa using fun z => g (by rw [z])
        rw [ne, Bool.false_or] at eq
        exact w_insJ v0 ea a0 al pl lp hp hd f1 f2 m' (j + 1) (by omega) eq
      · have ee : ps[j] = p := (nI_eq (by omega) (by omega)).mp g
        refine useR0 (w_fault (w := "42701") ⟨by decide, by decide +kernel⟩ hd) ?_
        rintro z h6 hI6 _ ⟨y1, y2⟩
        exact ⟨y1, f2 z h6 hI6 (by rw [eq, ee]; simp) y2⟩
/-- a place is kept -/
theorem w_insS {Q : JO → JH → Prop} {K39 : Nat → Nat → Int32 → Int32 → JH → Prop} {x x2 : Int32} {o : Option Nat} (v0 : v ≠ 0) (ea : jfr h 106 v = arr) (aA : AR h arr 148 10) (hI : JInv D h) (kl : k < 10) (lp : ps.length = k) (hp : ∀ (j z : Nat), ps[j]? = some z → jai h arr j = nI z ∧ z < 100) (o1 : o = none → x = -1) (o2 : ∀ p, o = some p → x = nI p ∧ p < 100) (hd : 7 ≤ d)
    (f1 : o = none → ∀ z h', JInv D h' → Flt (wai h arr k x) h' z (sStr "42703") → Q (.inr z) h') (f2 : ∀ p, o = some p → ps.contains p = true → ∀ z h', JInv D h' → Flt (wai h arr k x) h' z (sStr "42701") → Q (.inr z) h')
    (f3 : ∀ p, o = some p → ps.contains p = false → JInv D (wai h arr k x) → K39 v e x2 (nI (k + 1)) (wai h arr k x)) : W_X23_check_73 D d Q K39 v e x2 (nI k) arr (nI k) x h := by
  obtain ⟨a0, aK, al⟩ := aA
  have ix : ixn (nI k) = k := ixn_nI (by omega)
  refine ⟨a0, by rw [al]; exact jin_nI (by omega) (by decide), ?_⟩
  rintro h3 rfl
  rw [ix]
  have eA3 : jfr (wai h arr k x) 106 v = arr := ea
  have hI3 : JInv D (wai h arr k x) := hI.wai (hI.2.1 arr (by rw [aK]; rfl)) (hI.lt (by rw [aK]; decide))
  have ei : jai (wai h arr k x) arr k = x := by rw [jai_wai, if_pos ⟨rfl, rfl⟩]
  rw [eA3, ei]
  refine ⟨v0, a0, by show jin _ (jln h arr); rw [al]; exact jin_nI (by omega) (by decide), fun g => ?_, fun g => ?_⟩
  · cases o with
    | none =>
      rw [o1 rfl] at g
      exact absurd g (by decide)
    | some p =>
      obtain ⟨rfl, pl⟩ := o2 p rfl
      refine ⟨k + 1, w_insJ (p := p) v0 eA3 a0 al kl lp (fun j z hjz => ?_) hd (fun b => f3 p rfl b hI3) (fun z h' hI' b f => f2 p rfl b z h' hI' f) k 0 (by omega) (by rw [List.drop_zero])⟩
      rw [jai_wai]
      rw [List.getElem?_append] at hjz
      by_cases jl : j < ps.length
      · rw [if_pos jl] at hjz
        rw [if_neg (fun q => by omega)]
        exact hp j z hjz
      · rw [if_neg jl] at hjz
        have j0 : j - ps.length = 0 := by
          have := (List.getElem?_eq_some_iff.mp hjz).1
          simp at this
          omega
        rw [j0] at hjz
        cases hjz
        rw [if_pos ⟨rfl, by omega⟩]
        exact ⟨rfl, pl⟩
  · cases o with
    | some p =>
      rw [(o2 p rfl).1] at g
      have := (o2 p rfl).2
      exact absurd (nI_pos' (by omega)) g
    | none =>
      refine useR0 (w_fault (w := "42703") ⟨by decide, by decide +kernel⟩ hd) ?_
      rintro z h6 hI6 _ ⟨y1, y2⟩
      exact ⟨y1, f1 rfl z h6 hI6 y2⟩
/-- while INSERT is checked: the places ps, the trees l -/
def IcS (D : JD) (A : List Nod) (E : TEnv) (ρ : Nat → Nat) (sc arr : Nat) (ps l : List Nat) (cs : List Col) (h h1 : JH) : Prop :=
  KF chkK h h1 ∧ SF D h h1 ∧ UcF h h1 ∧ ScC D h1 sc E ∧ jfi h1 52 sc = 0 ∧ (∀ (j z : Nat), ps[j]? = some z → jai h1 arr j = nI z ∧ z < cs.length) ∧ ∀ x ∈ l, PlA A E h1 ρ x
def icP (cs : List Col) (ns : List Str) (k : Nat) (ps : List Nat) : Ex (List Nat) := if ns.isEmpty = true then .ok (List.range cs.length) else cPlaces cs (ns.drop k) ps
theorem w_insP {Q : JO → JH → Prop} {tbv : Tab} {nn : Nat} (v0 : v ≠ 0) (hI : JInv D h) (n1 : AR h (jfr h 101 v) 145 10) (n2 : StsR h (jfr h 101 v) ns) (c1 : jfi h 102 v = nI ns.length) (c2 : ns.length ≤ 10) (ea : jfr h 106 v = arr) (aA : AR h arr 148 10) (tR : TabR D h tb tbv) (ht : ∀ c ∈ tbv.2.1, TyOk c.2.1) (etb : jfr h 107 v = tb) (enn : nn = if ns.isEmpty = true then tbv.2.1.length else ns.length) (hd : 8 ≤ d)
    (hQ : ∀ ps h1, JInv D h1 → icP tbv.2.1 ns 0 [] = .ok ps → ps.length = nn → IcS D A E ρ sc arr ps [] tbv.2.1 h h1 → ∃ n, L_X23_check_134 D d Q n v e (nI nn) 0 h1)
    (hX : ∀ z h' c hm, JInv D h' → icP tbv.2.1 ns 0 [] = .error c → KF chkK h hm → SF D h hm → (jsz hm = jsz h ∧ jus hm = jus h) → FlX hm h' z c → Q (.inr z) h') :
    ∀ (m : Nat) (ps : List Nat) (h1 : JH), ps.length + m = nn → JInv D h1 → IcS D A E ρ sc arr ps [] tbv.2.1 h h1 → (ns = [] → ps = List.range ps.length) → icP tbv.2.1 ns 0 [] = icP tbv.2.1 ns ps.length ps → L_X23_check_39 D d Q (m + 1) v e (nI nn) (nI ps.length) h1
  | m, ps, h1, hm, hI1, S, hr0, eq => by
    have S0 := S
    obtain ⟨kf, sf, uf, sC, w5, hp, hl⟩ := S
    have w10 := tR.2.2.1.2.2.2.1
    have nn10 : nn ≤ 10 := by rw [enn]; split <;> omega
    have eA : jfr h1 106 v = arr := (uf.2.1 106 v (by decide)).trans ea
    have aA1 : AR h1 arr 148 10 := ⟨aA.1, (uf.1 arr).1.trans aA.2.1, (uf.1 arr).2.trans aA.2.2⟩
    have eC : jfi h1 102 v = nI ns.length := (uf.2.2.2.1 102 v (by decide) (by decide) (by decide)).trans c1
    have tR1 : TabR D h1 tb tbv := tR.kf kf hI ktb_chk
    have hr : wkA (jkd h1 arr) = true := by rw [aA1.2.1]; rfl
    refine ⟨fun g => ?_, fun g => ⟨v0, ?_⟩⟩
    · have := (nI_leI (by omega) (by omega)).mp g
      refine hQ ps h1 hI1 (eq.trans ?_) (by omega) S0
      unfold icP
      by_cases z : ns = []
      · rw [z, if_pos (show ([] : List Str).isEmpty = true from rfl)]
        rw [z, if_pos (show ([] : List Str).isEmpty = true from rfl)] at enn
        rw [hr0 z, show ps.length = tbv.2.1.length by omega]
      · have z' : ¬ ns.isEmpty = true := by simpa using z
        rw [if_neg z'] at enn ⊢
        rw [List.drop_eq_nil_of_le (by omega)]
        rfl
    · have kl : ps.length < nn := Nat.lt_of_not_le fun z => g ((nI_leI (by omega) (by omega)).mpr z)
      obtain ⟨m', rfl⟩ : ∃ m', m = m' + 1 := ⟨m - 1, by omega⟩
      have nxt : ∀ (x : Int32) (p : Nat), x = nI p → p < tbv.2.1.length → JInv D (wai h1 arr ps.length x) → (ns = [] → p = ps.length) → icP tbv.2.1 ns ps.length ps = icP tbv.2.1 ns (ps.length + 1) (ps ++ [p]) → L_X23_check_39 D d Q (m' + 1) v e (nI nn) (nI (ps.length + 1)) (wai h1 arr ps.length x) := by
        intro x p ex pl hI3 h0 h2
        have := w_insP v0 hI n1 n2 c1 c2 ea aA tR ht etb enn hd hQ hX m' (ps ++ [p]) (wai h1 arr ps.length x) (by rw [List.length_append]; show ps.length + 1 + m' = _; omega) hI3 ⟨kf.tr (KF.pai hr), sf.tr (SF.pai hr) hI1, uf.tr ⟨fun _ => ⟨rfl, rfl⟩, fun _ _ _ => rfl, fun _ _ => rfl, fun _ _ _ _ _ => rfl, rfl, rfl⟩, sC.pai hr, w5, fun j z hjz => ?_, fun x hx => absurd hx List.not_mem_nil⟩ (fun z => ?_) (by rw [List.length_append]; exact eq.trans h2)
        · rw [List.length_append] at this
          exact this
        · rw [jai_wai]
          rw [List.getElem?_append] at hjz
          by_cases jl : j < ps.length
          · rw [if_pos jl] at hjz
            rw [if_neg (fun q => by omega)]
            exact hp j z hjz
          · rw [if_neg jl] at hjz
            have j0 : j - ps.length = 0 := by
              have := (List.getElem?_eq_some_iff.mp hjz).1
              simp at this
              omega
            rw [j0] at hjz
            cases hjz
            rw [if_pos ⟨rfl, by omega⟩]
            exact ⟨ex, pl⟩
        · rw [List.length_append, h0 z]
          show _ = List.range (ps.length + 1)
          rw [List.range_succ, ← hr0 z]
      have hp1 : ∀ (j z : Nat), ps[j]? = some z → jai h1 arr j = nI z ∧ z < 100 := fun j z hjz => ⟨(hp j z hjz).1, by have := (hp j z hjz).2; omega⟩
      rw [eC, eA]
      refine ⟨fun g0 => ?_, fun g0 => ?_⟩
      · have nz : ns ≠ [] := fun z => g0 (by rw [z]; rfl)
        have z' : ¬ ns.isEmpty = true := by simpa using nz
        rw [if_neg z'] at enn
        have knl : ps.length < ns.length := by omega
        have hnm : ns[ps.length]? = some (ns[ps.length]) := List.getElem?_eq_getElem knl
        have eq' : icP tbv.2.1 ns ps.length ps = (match tColOf tbv.2.1 ns[ps.length] with
            | none => xErr "42703"
            | some c => if ps.contains c = true then xErr "42701" else icP tbv.2.1 ns (ps.length + 1) (ps ++ [c])) := by
          unfold icP
          rw [if_neg z', List.drop_eq_getElem_cons knl, cPlaces]
          cases tColOf tbv.2.1 ns[ps.length] with
          | none => rfl
          | some c =>
            show (if ps.contains c = true then _ else _) = (if ps.contains c = true then _ else _)
            rw [if_neg z']
        generalize ns[ps.length] = nm at hnm eq'
        have eN : jfr h1 101 v = jfr h 101 v := uf.2.1 101 v (by decide)
        have eT : jfr h1 107 v = tb := (uf.2.1 107 v (by decide)).trans etb
        have st : StR h1 (jar h1 (jfr h 101 v) ps.length) nm := by
          rw [uf.2.2.1]
          exact sf.2.2.2.2.2.2.1 _ _ (n2 _ _ hnm)
        have ix : ixn (nI ps.length) = ps.length := ixn_nI (by omega)
        rw [eN, eT, ix]
        refine ⟨n1.1, by rw [(uf.1 _).2, n1.2.2]; exact jin_nI (by omega) (by decide), tR1.1.1.1, useI0 (w_tcol (tR1.tabC ht) st (by omega)) ?_⟩
        rintro xi h2 hI2 _ ⟨rfl, he2⟩
        have he2 := he2.symm
        subst he2
        refine w_insS (o := tColOf tbv.2.1 nm) v0 eA aA1 hI1 (by omega) rfl hp1 (fun z => ?_) (fun p z => ?_) (by omega) (fun z x h' hI' f => ?_) (fun p z b x h' hI' f => ?_) (fun p z b hI3 => ?_)
        · unfold tcI; rw [z]
        · have pl := tColOf_lt z
          unfold tcI; rw [z]
          exact ⟨rfl, by omega⟩
        · rw [z] at eq'
          exact hX x h' _ _ hI' (eq.trans eq') (kf.tr (KF.pai hr)) (sf.tr (SF.pai hr) hI1) uf.2.2.2.2 (f.fx (by decide +kernel))
        · rw [z] at eq'
          dsimp only at eq'
          rw [if_pos b] at eq'
          exact hX x h' _ _ hI' (eq.trans eq') (kf.tr (KF.pai hr)) (sf.tr (SF.pai hr) hI1) uf.2.2.2.2 (f.fx (by decide +kernel))
        · rw [z] at eq'
          dsimp only at eq'
          rw [if_neg (by rw [b]; decide)] at eq'
          exact nxt _ p (by unfold tcI; rw [z]) (tColOf_lt z) hI3 (fun y => absurd y nz) eq'
      · have nz : ns = [] := by
          have := (nI_eq (by omega) (by omega)).mp (show nI ns.length = nI 0 from g0)
          exact List.length_eq_zero_iff.mp this
        have hrr := hr0 nz
        refine w_insS (o := some ps.length) v0 eA aA1 hI1 (by omega) rfl hp1 (fun z => by cases z) (fun p z => ?_) (by omega) (fun z => by cases z) (fun p z b => ?_) (fun p z b hI3 => ?_)
        · cases z
          exact ⟨rfl, by omega⟩
        · cases z
          rw [hrr] at b
          simp at b
        · cases z
          rw [nz, if_pos (show ([] : List Str).isEmpty = true from rfl)] at enn
          refine nxt _ ps.length rfl (by omega) hI3 (fun _ => rfl) ?_
          unfold icP
          rw [nz, if_pos (show ([] : List Str).isEmpty = true from rfl), if_pos (show ([] : List Str).isEmpty = true from rfl)]
end
