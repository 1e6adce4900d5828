/-! the parser of the component: SELECT, reading a source -/
section
variable {D : JD} {p s a base : Nat} {src : Str} {h h' h'' h0 h2 : JH} {σ σ' σ'' σ0 σ2 : PS} {ρ ρ' ρ'' ρ0 : Nat → Nat} {n m n' m' n1 m1 : Int} {d c r q w arr N L L' l : Nat} {ds : Bool} {is : List Itm} {ss : List Src} {gs : List Nat} {wh hv : Option Nat} {os : List (Nat × Bool)} {li : Option Int64} {ox : Int64} {v : Src} {t nm : Str} {lf jn : Bool}
def sr1 (src : Str) (jn lf : Bool) (t nm : Str) (σ : PS) : Except Nat (Src × PS) := if jn = true then pNeed true src "on" σ >>= fun o => pExpr true src 31 o.2 >>= fun x => .ok ((t, nm, lf, some x.1), x.2) else .ok ((t, nm, lf, none), σ)
def sr2 (src : Str) (jn lf : Bool) (t : Str) (σ : PS) : Except Nat (Src × PS) := if (tkK (psT σ) == 2) = true then pName true src σ >>= fun m => sr1 src jn lf t m.1 m.2 else sr1 src jn lf t t σ
theorem pSource_eq (hl : l ≠ 3) : pSource true src l jn lf σ = (pName true src σ >>= fun t => pTake true src "as" t.2 >>= fun a => if a.1 = true then pName true src a.2 >>= fun m => sr1 src jn lf t.1 m.1 m.2 else sr2 src jn lf t.1 a.2) := by
  unfold pSource
  rw [if_neg (by simpa using hl)]
  cases pName true src σ with
  | error e => rfl
  | ok t =>
    show (pTake true src "as" t.2 >>= _) = (pTake true src "as" t.2 >>= _)
    cases pTake true src "as" t.2 with
    | error e => rfl
    | ok a =>
      obtain ⟨b, τ⟩ := a
      cases b with
      | true =>
        show (pName true src τ >>= _) = (pName true src τ >>= _)
        cases pName true src τ with
        | error e => rfl
        | ok m => cases jn <;> rfl
      | false =>
        show ((if (false || tkK (psT τ) == 2) = true then pName true src τ else .ok (t.1, τ)) >>= _) = sr2 src jn lf t.1 τ
        unfold sr2
        rw [Bool.false_or]
        by_cases e : (tkK (psT τ) == 2) = true
        · rw [if_pos e, if_pos e]
          cases pName true src τ with
          | error e => rfl
          | ok m => cases jn <;> rfl
        · rw [if_neg e, if_neg e]
          cases jn <;> rfl
/-- what comes of a source -/
def SoP (D : JD) (p s a base : Nat) (src : Str) (h0 : JH) (σ0 : PS) (ρ0 : Nat → Nat) (r c : Nat) (ds : Bool) (is : List Itm) (ss : List Src) (wh : Option Nat) (gs : List Nat) (hv : Option Nat) (os : List (Nat × Bool)) (li : Option Int64) (ox : Int64) (σ : PS) (x : Except Nat (Src × PS)) (h' : JH) : Prop :=
  ∃ v σ' ρ', x = .ok (v, σ') ∧ Pd2 D p s a base src h0 h' σ0 σ' ρ0 ρ' ∧ SelS (jsz h0) h' ρ' (psA σ').length r c ds is (ss ++ [v]) wh gs hv os li ox ∧ lp σ ≤ lp σ' ∧ psO σ' = 0
theorem w_src100 {x2 : Int32} (hI0 : JInv D h0) (hs0 : s ≤ jsz h0) (k : Pd2 D p s a base src h0 h σ0 σ ρ0 ρ) (hI : JInv D h) (ho : psO σ = 0) (u : SelS (jsz h0) h ρ (psA σ).length r c ds is ss wh gs hv os li ox) (b : SqB (jsz h0) h r q ss.length) (hq : SrcR h ρ q (t, nm, lf, none)) (hl : ss.length < 3) (hx2 : x2 = if jn = true then 1 else 0) (hd : 350 ≤ d) (Q : JO → JH → Prop)
    (hQ : ∀ h', JInv D h' → SoP D p s a base src h0 σ0 ρ0 r c ds is ss wh gs hv os li ox σ (sr1 src jn lf t nm σ) h' → Q (.inl none) h') (hE : ∀ y h', JInv D h' → (∃ er, sr1 src jn lf t nm σ = .error er ∧ PEr2 p s src h0 h' σ0 y er) → Q (.inr y) h') : W_X17_source_100 D d Q p r x2 q h := by
  have A0 := u.1.ary (x := (144, 153, 3)) (by decide)
  dsimp only at A0
  have uc := u.2.2.1.2.1.1
  have lr : r ≤ jsz h := hI.lt (by rw [u.1.1.2.2]; decide)
  refine ⟨u.1.1.2.1, A0.2.2.2.1, by rw [uc, A0.2.2.1]; exact jin_nI (by omega) (by omega), ?_⟩
  rw [uc, ixn_nI (by omega)]
  rintro h1 q1 h2 q2
  have q2 : h2 = wfi (war h (jfr h 144 r) ss.length q) 145 r (nI (ss.length + 1)) := by
    rw [q2, q1]
    show wfi (war h (jfr h 144 r) ss.length q) 145 r (jfi h 145 r + 1) = _
    rw [uc, nI_1]
  obtain ⟨u2, b2, e2⟩ := u.addS b hq (fun x hx => by cases hx) hl
  have hI1 : JInv D h1 := by rw [q1]; exact hI.war (hI.2.1 _ (by rw [A0.2.1]; decide)) (hI.lt (by rw [A0.2.1]; decide)) (Or.inr (by rw [A0.2.1, b.1.2.2]; decide))
  have k1 : Pd2 D p s a base src h0 h1 σ0 σ ρ0 ρ := by rw [q1]; exact POk.sar k hI hI0 hs0 (by rw [A0.2.1]; decide) (u.1.2 (144, 153, 3) (by decide)).1
  have d1 : ∀ z, jkd h1 z = jkd h z := fun z => by rw [q1]; rfl
  have k2 : Pd2 D p s a base src h0 h2 σ0 σ ρ0 ρ := by
    rw [q2, ← q1]; exact POk.sfi k1 hI1 hI0 hs0 (by rw [d1, u.1.1.2.2]; decide) u.1.1.1
  have hI2 : JInv D h2 := by rw [q2, ← q1]; exact hI1.wfi (hI1.2.1 _ (by rw [d1, u.1.1.2.2]; decide)) (by rw [q1]; exact lr)
  rw [← q2] at u2 b2 e2
  clear q2
  subst hx2
  cases jn with
  | false =>
    refine ⟨fun z => absurd rfl z, fun _ => hQ h2 hI2 ⟨(t, nm, lf, none), σ, ρ, rfl, k2, u2, Int.le_refl _, ho⟩⟩
  | true =>
    refine ⟨fun _ => ⟨k2.1.1.2.1, k2.1.sg, ?_⟩, fun z => absurd z (by decide)⟩
    rw [k2.1.1.2.2.1]
    refine useV (w_needWord k2.1 "on" (by decide +kernel) (by omega)) ?_ ?_
    · rintro h3 hI3 _ ⟨σ3, e3, n3, l3, q3⟩
      have k3 : Pd2 D p s a base src h0 h3 σ0 σ3 ρ0 ρ := Pd2.tr k2 n3 (by omega) (by omega)
      have o3 : psO σ3 = 0 := by rw [← ho]; unfold psO; rw [q3]
      refine useR (w_expr 31 σ3 ρ h3 d n3.1 (by omega) (by omega)) ?_ ?_
      · rintro v4 h4 hI4 _ ⟨x4, σ4, ρ4, e4, hv4, n4, l4⟩
        have n34 := n3.pok.tr n4
        have k4 : Pd2 D p s a base src h0 h4 σ0 σ4 ρ0 ρ4 := Pd2.tr k3 n4 (by omega) (by omega)
        have u4 := n34.selS k2.1 hI2 u2
        have sq : same h2 h4 q := n34.obj k2.1 hI2 (by rw [b2.1.2.2]; decide)
        have sr : same h2 h4 r := n34.obj k2.1 hI2 (by rw [u2.1.1.2.2]; decide)
        have sA : same h2 h4 (jfr h2 144 r) := n34.obj k2.1 hI2 (u2.1.ary (x := (144, 153, 3)) (by decide)).1
        have b4 := b2.of sr sA sq.kd
        have e4' : jar h4 (jfr h4 144 r) ss.length = q := by rw [sr.fr, sA.ar]; exact e2
        refine ⟨b4.1.2.1, ?_⟩
        rintro h5 rfl
        rw [hv4]
        have xl := expr_lt e4 n3.1.2.2.2.2.2.1
        have nk := k4.1.nk xl
        have k5 : Pd2 D p s a base src h0 (wfr h4 140 q (ρ4 x4)) σ0 σ4 ρ0 ρ4 := POk.sfr k4 hI4 hI0 hs0 (by rw [b4.1.2.2]; decide) b4.1.1
        have hI5 : JInv D (wfr h4 140 q (ρ4 x4)) := hI4.wfr (hI4.2.1 _ (by rw [b4.1.2.2]; decide)) (hI4.lt (by rw [b4.1.2.2]; decide)) (Or.inr (sbt_node3 _ nk.2 nk.1).2.1)
        refine hQ _ hI5 ⟨(t, nm, lf, some x4), σ4, ρ4, ?_, k5, u4.on b4 e4' xl, by omega, ?_⟩
        · unfold sr1
          rw [if_pos rfl, e3, ok_bind, e4]; rfl
        · rw [← o3]; exact n4.2.2.2.2.1.1
      · rintro y4 h4 hI4 _ ⟨er, e4, n4⟩
        refine hE y4 h4 hI4 ⟨er, ?_, k3.err n4 (Or.inr (Or.inl rfl))⟩
        unfold sr1
        rw [if_pos rfl, e3, ok_bind, e4]; rfl
    · rintro y3 h3 hI3 _ ⟨er, e3, n3⟩
      refine hE y3 h3 hI3 ⟨er, ?_, k2.err n3 (Or.inl rfl)⟩
      unfold sr1
      rw [if_pos rfl, e3]; rfl
theorem w_source {x2 x3 : Int32} (hI0 : JInv D h0) (hs0 : s ≤ jsz h0) (k : Pd2 D p s a base src h0 h σ0 σ ρ0 ρ) (ho : psO σ = 0) (u : SelS (jsz h0) h ρ (psA σ).length r c ds is ss wh gs hv os li ox) (hx2 : x2 = if jn = true then 1 else 0) (hx3 : x3 = if lf = true then 1 else 0) (hd : 351 ≤ d) :
    cX17_source D d p r x2 x3 h (pV D h (fun h' => ∃ v σ' ρ', pSource true src ss.length jn lf σ = .ok (v, σ') ∧ Pd2 D p s a base src h0 h' σ0 σ' ρ0 ρ' ∧ SelS (jsz h0) h' ρ' (psA σ').length r c ds is (ss ++ [v]) wh gs hv os li ox ∧ lp σ + 1 ≤ lp σ' ∧ psO σ' = 0) (fun y h' => ∃ er, pSource true src ss.length jn lf σ = .error er ∧ PEr2 p s src h0 h' σ0 y er)) := by
  obtain ⟨e, rfl, he⟩ := dsucc hd
  have lt0 : jsz h0 ≤ jsz h := k.2.1.2.2.2.1.1
  have r0 := u.1.1.2.1
  have uc := u.2.2.1.2.1.1
  have ul := u.2.2.1.2.1.2
  refine JW.inv fun hI => t_X17_source ⟨r0, fun z => ?_, fun z => ?_⟩
  · rw [uc] at z
    have hl' : ss.length < 3 := by
      rcases Nat.lt_or_ge ss.length 3 with y | y
      · exact y
      · exact absurd (by rw [show ss.length = 3 by omega]; rfl) z
    have eq0 := pSource_eq (src := src) (σ := σ) (jn := jn) (lf := lf) (l := ss.length) (by omega)
    rintro q h4 rfl rfl
    refine JW.up (n := 1) (fun _ => t_X38_init ⟨Nat.succ_ne_zero _, endV fun hI1 _ => ?_⟩) (by omega)
    have k1 := POk.nO (kk := 31) (N := 5) k hI hI0 hs0 rfl
    have u1 := u.new (kk := 31) (M := 5) hI
    have dq : jkd (nwo h 31 5) (jsz h + 1) = 31 := by simp only [jkd_wfi, jln_wfi, jfi_wfi, jfl_wfi, jfr_wfi, jai_wfi, jal_wfi, jar_wfi, jsz_wfi, jus_wfi, jkd_wfl, jln_wfl, jfi_wfl, jfl_wfl, jfr_wfl, jai_wfl, jal_wfl, jar_wfl, jsz_wfl, jus_wfl, jkd_wfr, jln_wfr, jfi_wfr, jfl_wfr, jfr_wfr, jai_wfr, jal_wfr, jar_wfr, jsz_wfr, jus_wfr, jkd_wai, jln_wai, jfi_wai, jfl_wai, jfr_wai, jai_wai, jal_wai, jar_wai, jsz_wai, jus_wai, jkd_wal, jln_wal, jfi_wal, jfl_wal, jfr_wal, jai_wal, jal_wal, jar_wal, jsz_wal, jus_wal, jkd_war, jln_war, jfi_war, jfl_war, jfr_war, jai_war, jal_war, jar_war, jsz_war, jus_war, jkd_nwo, jln_nwo, jfi_nwo, jfl_nwo, jfr_nwo, jai_nwo, jal_nwo, jar_nwo, jsz_nwo, jus_nwo, jkd_nwa, jln_nwa, jfi_nwa, jfl_nwa, jfr_nwa, jai_nwa, jal_nwa, jar_nwa, jsz_nwa, jus_nwa, jkd_cpa, jln_cpa, jfi_cpa, jfl_cpa, jfr_cpa, jai_cpa, jal_cpa, jar_cpa, jsz_cpa, jus_cpa, if_true]
    have b1 : SqB (jsz h0) (nwo h 31 5) r (jsz h + 1) ss.length := ⟨⟨by omega, Nat.succ_ne_zero _, dq⟩, fun i hi => by
      show jar h (jfr h 144 r) i ≠ jsz h + 1
      have : jar h (jfr h 144 r) i ≤ jsz h := hI.lt (by rw [u.2.2.1.1.kd hi]; decide)
      omega⟩
    have zr : ∀ F, jfr (nwo h 31 5) F (jsz h + 1) = 0 := fun F => hI.zr (Nat.lt_succ_self _) F
    generalize nwo h 31 5 = h1 at k1 u1 dq b1 zr hI1 ⊢
    generalize jsz h + 1 = q at dq b1 zr ⊢
    refine ⟨k1.1.1.2.1, k1.1.sg, ?_⟩
    rw [k1.1.1.2.2.1]
    refine useR (w_name k1.1 (by omega)) ?_ ?_
    · rintro v2 h2 hI2 _ ⟨t, σ2, e2, s2, n2, l2, q2⟩
      rintro h3 q3 h4 q4
      have k2 : Pd2 D p s a base src h0 h2 σ0 σ2 ρ0 ρ := (k1.tr n2).mono (by omega) (by omega)
      have o2 : psO σ2 = 0 := by rw [← ho]; unfold psO; rw [q2]
      have u2 := POk.selS n2 k1.1 hI1 u1
      have sq2 : same h1 h2 q := POk.obj n2 k1.1 hI1 (by rw [dq]; decide)
      have b2 := b1.of (POk.obj n2 k1.1 hI1 (by rw [u1.1.1.2.2]; decide)) (POk.obj n2 k1.1 hI1 (u1.1.ary (x := (144, 153, 3)) (by decide)).1) sq2.kd
      have bq : jbs D < q := hI2.2.1 _ (by rw [b2.1.2.2]; decide)
      have lq : q ≤ jsz h2 := hI2.lt (by rw [b2.1.2.2]; decide)
      have sx : jkd h2 v2 = 12 ∨ jkd h2 v2 = 51 := s2.2.1
      have hI3 : JInv D h3 := by
        rw [q3]; refine hI2.wfr bq lq (Or.inr ?_)
        rcases sx with y | y <;> rw [y]
        · exact sbt_str.2.2.2.2.1
        · exact sbt_str.2.2.2.2.2.1
      have e3 : jfr h3 137 q = v2 := by rw [q3, jfr_wfr, if_pos ⟨rfl, rfl⟩]
      rw [e3] at q4
      have k3 : Pd2 D p s a base src h0 h3 σ0 σ2 ρ0 ρ := by rw [q3]; exact POk.sfr k2 hI2 hI0 hs0 (by rw [b2.1.2.2]; decide) b2.1.1
      have d3 : ∀ z, jkd h3 z = jkd h2 z := fun z => by rw [q3]; rfl
      have hI4 : JInv D h4 := by
        rw [q4]; refine hI3.wfr bq (by rw [q3]; exact lq) (Or.inr ?_)
        rw [d3]
        rcases sx with y | y <;> rw [y]
        · exact sbt_str.2.2.1
        · exact sbt_str.2.2.2.1
      have k4 : Pd2 D p s a base src h0 h4 σ0 σ2 ρ0 ρ := by rw [q4]; exact POk.sfr k3 hI3 hI0 hs0 (by rw [d3, b2.1.2.2]; decide) b2.1.1
      have d4 : ∀ z, jkd h4 z = jkd h2 z := fun z => by rw [q4]; exact d3 z
      refine ⟨by rw [hx3]; cases lf; exact jbo0; exact jbo1, ?_⟩
      rintro h5 q5
      have k5 : Pd2 D p s a base src h0 h5 σ0 σ2 ρ0 ρ := by rw [q5]; exact POk.sfi k4 hI4 hI0 hs0 (by rw [d4, b2.1.2.2]; decide) b2.1.1
      have hI5 : JInv D h5 := by rw [q5]; exact hI4.wfi bq (by rw [q4, q3]; exact lq)
      have s25 : ∀ z, z ≠ q → same h2 h5 z := fun z hz => by rw [q5, q4, q3]; exact ((same_wfr hz).tr (same_wfr hz)).tr (same_wfi hz)
      obtain ⟨u5, b5, st5⟩ := u2.atS (h' := h5) b2 s25 (by rw [q5]; exact d4 q)
      have r5 : SrcR h5 ρ q (t, t, lf, none) := by
        refine ⟨b5.1.2.1, b5.1.2.2, ?_, ?_, ?_, ?_⟩
        · rw [show jfr h5 137 q = v2 by rw [q5, q4]; show jfr (wfr h3 136 q v2) 137 q = v2; rw [jfr_wfr, if_neg fun z => absurd z.1 (by decide)]; exact e3]
          exact st5 _ _ s2
        · rw [show jfr h5 136 q = v2 by rw [q5, q4]; show jfr (wfr h3 136 q v2) 136 q = v2; rw [jfr_wfr, if_pos ⟨rfl, rfl⟩]]
          exact st5 _ _ s2
        · rw [q5, jfi_wfi, if_pos ⟨rfl, rfl⟩]; exact hx3
        · show jfr h5 140 q = 0
          rw [q5, q4]
          show jfr (wfr h3 136 q v2) 140 q = 0
          rw [jfr_wfr, if_neg fun z => absurd z.1 (by decide), q3, jfr_wfr, if_neg fun z => absurd z.1 (by decide)]
          exact (sq2.fr 140).trans (zr 140)
      refine ⟨k5.1.sg, ?_⟩
      rw [k5.1.1.2.2.1]
      -- a name of its own
      have nam : ∀ h6 σ6, JInv D h6 → POk D p s a base src h5 h6 σ2 σ6 ρ ρ (80 * (lp σ6 - lp σ2)) (2400 * (lp σ6 - lp σ2)) → σ6.2 = σ2.2 → (pSource true src ss.length jn lf σ = (pName true src σ6 >>= fun m => sr1 src jn lf t m.1 m.2)) → jfr h6 79 p ≠ 0 ∧ cX18_name D e (jfr h6 79 p) h6 (pR D h6 64 (fun v_35 h_33 => ∀ h_36 : JH, h_36 = wfr h_33 136 q v_35 → (W_X17_source_100 D e (pV D h (fun h' => ∃ v σ' ρ', pSource true src ss.length jn lf σ = .ok (v, σ') ∧ Pd2 D p s a base src h0 h' σ0 σ' ρ0 ρ' ∧ SelS (jsz h0) h' ρ' (psA σ').length r c ds is (ss ++ [v]) wh gs hv os li ox ∧ lp σ + 1 ≤ lp σ' ∧ psO σ' = 0) (fun y h' => ∃ er, pSource true src ss.length jn lf σ = .error er ∧ PEr2 p s src h0 h' σ0 y er)) p r x2 q h_36)) (jth (pV D h (fun h' => ∃ v σ' ρ', pSource true src ss.length jn lf σ = .ok (v, σ') ∧ Pd2 D p s a base src h0 h' σ0 σ' ρ0 ρ' ∧ SelS (jsz h0) h' ρ' (psA σ').length r c ds is (ss ++ [v]) wh gs hv os li ox ∧ lp σ + 1 ≤ lp σ' ∧ psO σ' = 0) (fun y h' => ∃ er, pSource true src ss.length jn lf σ = .error er ∧ PEr2 p s src h0 h' σ0 y er)))) := by
        intro h6 σ6 hI6 n6 q6 eqN
        refine ⟨n6.1.sg, ?_⟩
        rw [n6.1.1.2.2.1]
        have k6 : Pd2 D p s a base src h0 h6 σ0 σ6 ρ0 ρ := Pd2.tr k5 n6 (Int.le_refl _) (Int.le_refl _)
        have l6 := n6.2.2.2.2.2
        refine useR (w_name n6.1 (by omega)) ?_ ?_
        · rintro v7 h7 hI7 _ ⟨nm, σ7, e7, s7, n7, l7, q7⟩
          rintro h8 q8
          have n57 := n6.tr n7
          have k7 : Pd2 D p s a base src h0 h7 σ0 σ7 ρ0 ρ := Pd2.tr k6 n7 (by omega) (by omega)
          have u7 := n57.selS k5.1 hI5 u5
          have sq7 : same h5 h7 q := n57.obj k5.1 hI5 (by rw [b5.1.2.2]; decide)
          have b7 := b5.of (n57.obj k5.1 hI5 (by rw [u5.1.1.2.2]; decide)) (n57.obj k5.1 hI5 (u5.1.ary (x := (144, 153, 3)) (by decide)).1) sq7.kd
          have r7 : SrcR h7 ρ q (t, t, lf, none) := r5.of sq7 n57.2.1.2.2.2.2 fun _ _ => rfl
          obtain ⟨u8, b8, st8⟩ := u7.atS (h' := h8) b7 (fun z hz => by rw [q8]; exact same_wfr hz) (by rw [q8]; rfl)
          have k8 : Pd2 D p s a base src h0 h8 σ0 σ7 ρ0 ρ := by rw [q8]; exact POk.sfr k7 hI7 hI0 hs0 (by rw [b7.1.2.2]; decide) b7.1.1
          have sy : jkd h7 v7 = 12 ∨ jkd h7 v7 = 51 := s7.2.1
          have hI8 : JInv D h8 := by
            rw [q8]; refine hI7.wfr (hI7.2.1 _ (by rw [b7.1.2.2]; decide)) (hI7.lt (by rw [b7.1.2.2]; decide)) (Or.inr ?_)
            rcases sy with y | y <;> rw [y]
            · exact sbt_str.2.2.1
            · exact sbt_str.2.2.2.1
          have r8 : SrcR h8 ρ q (t, nm, lf, none) := by
            refine ⟨b8.1.2.1, b8.1.2.2, ?_, ?_, ?_, ?_⟩
            · rw [show jfr h8 137 q = jfr h7 137 q by rw [q8, jfr_wfr, if_neg fun z => absurd z.1 (by decide)]]
              exact st8 _ _ r7.2.2.1
            · rw [show jfr h8 136 q = v7 by rw [q8, jfr_wfr, if_pos ⟨rfl, rfl⟩]]
              exact st8 _ _ s7
            · rw [q8]; exact r7.2.2.2.2.1
            · rw [q8, jfr_wfr, if_neg fun z => absurd z.1 (by decide)]; exact r7.2.2.2.2.2
          have o7 : psO σ7 = 0 := by rw [← o2]; unfold psO; rw [q7, q6]
          have eqM : pSource true src ss.length jn lf σ = sr1 src jn lf t nm σ7 := by rw [eqN, e7]; rfl
          refine w_src100 (jn := jn) hI0 hs0 k8 hI8 o7 u8 b8 r8 hl' hx2 (by omega) _ ?_ ?_
          · rintro h9 hI9 ⟨v, σ9, ρ9, x1, x2, x3, x4, x5⟩
            exact endV fun _ _ => ⟨v, σ9, ρ9, by rw [eqM]; exact x1, x2, x3, by omega, x5⟩
          · rintro y9 h9 hI9 ⟨er, x1, x2⟩
            exact fun _ _ => ⟨er, by rw [eqM]; exact x1, x2⟩
        · rintro y7 h7 hI7 _ ⟨er, e7, n7⟩
          exact fun _ _ => ⟨er, by rw [eqN, e7]; rfl, k6.err n7 (Or.inl rfl)⟩
      refine useI (w_takesWord k5.1 "as" (by decide +kernel) (by omega)) ?_ ?_
      · rintro v6 h6 hI6 _ ⟨b, σ6, e6, rfl, n6, q6, t6, f6⟩
        cases b with
        | true =>
          obtain ⟨i6, en6, l6⟩ := t6 rfl
          exact ⟨fun z => absurd z (by decide), fun _ => nam h6 σ6 hI6 (n6.pok.mono (by omega) (by omega)) q6 (by rw [eq0, e2, ok_bind, e6]; rfl)⟩
        | false =>
          obtain ⟨i6, rfl, rfl⟩ := f6 rfl
          refine ⟨fun _ => ⟨k5.1.sg, ?_⟩, fun z => absurd rfl z⟩
          rw [k5.1.1.2.2.1]
          have eq1 : pSource true src ss.length jn lf σ = sr2 src jn lf t σ6 := by rw [eq0, e2, ok_bind, e6]; rfl
          refine useI0 (w_isName k5.1 (by omega)) ?_
          rintro v7 h7 hI7 _ ⟨rfl, n7, f7⟩
          by_cases c2 : tkK (psT σ6) = 2
          · rw [if_pos c2]
            exact ⟨fun z => absurd z (by decide), fun _ => nam h7 σ6 hI7 (n7.mono (by omega) (by omega)) rfl (by rw [eq1]; unfold sr2; rw [if_pos (by rw [c2]; rfl)])⟩
          · rw [if_neg c2]
            refine ⟨fun _ => ?_, fun z => absurd rfl z⟩
            have k7 : Pd2 D p s a base src h0 h7 σ0 σ6 ρ0 ρ := Pd2.tr k5 n7 (by omega) (by omega)
            have u7 := n7.selS k5.1 hI5 u5
            have sq7 : same h6 h7 q := n7.obj k5.1 hI5 (by rw [b5.1.2.2]; decide)
            have b7 := b5.of (n7.obj k5.1 hI5 (by rw [u5.1.1.2.2]; decide)) (n7.obj k5.1 hI5 (u5.1.ary (x := (144, 153, 3)) (by decide)).1) sq7.kd
            have r7 : SrcR h7 ρ q (t, t, lf, none) := r5.of sq7 n7.2.1.2.2.2.2 fun _ _ => rfl
            have eqM : pSource true src ss.length jn lf σ = sr1 src jn lf t t σ6 := by rw [eq1]; unfold sr2; rw [if_neg (by simpa using c2)]
            refine w_src100 (jn := jn) hI0 hs0 k7 hI7 o2 u7 b7 r7 hl' hx2 (by omega) _ ?_ ?_
            · rintro h9 hI9 ⟨v, σ9, ρ9, x1, x2, x3, x4, x5⟩
              exact endV fun _ _ => ⟨v, σ9, ρ9, by rw [eqM]; exact x1, x2, x3, by omega, x5⟩
            · rintro y9 h9 hI9 ⟨er, x1, x2⟩
              exact fun _ _ => ⟨er, by rw [eqM]; exact x1, x2⟩
      · rintro y6 h6 hI6 _ ⟨er, e6, n6⟩
        exact fun _ _ => ⟨er, by rw [eq0, e2, ok_bind, e6]; rfl, k5.err n6 (Or.inl rfl)⟩
    · rintro y2 h2 hI2 _ ⟨er, e2, n2⟩
      exact fun _ _ => ⟨er, by rw [eq0, e2]; rfl, k1.er2 (by omega) (by omega) n2⟩
  · rw [uc] at z
    have e3 : ss.length = 3 := (nI_eq (b := 3) (by omega) (by omega)).mp z
    refine ⟨k.1.1.2.1, useR0 (w_broken k.1 (by omega)) ?_⟩
    rintro y1 h1 hI1 _ n1
    refine ⟨n1.1.1, fun _ _ => ⟨tkF (psT σ) + 1, ?_, k.err n1 (Or.inl rfl)⟩⟩
    unfold pSource
    rw [if_pos (by rw [e3]; rfl)]; rfl
end
