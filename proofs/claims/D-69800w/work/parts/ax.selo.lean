/-! the parser of the component: SELECT, ORDER BY, HAVING, GROUP BY, WHERE -/
section
variable {D : JD} {p s a base : Nat} {src : Str} {h h' h'' h0 h2 : JH} {σ σ' σ'' σ0 σ2 : PS} {ρ ρ' ρ'' ρ0 : Nat → Nat} {n m n' m' n1 m1 : Int} {d c r q w arr N L L' l : Nat} {ds : Bool} {is : List Itm} {ss : List Src} {gs : List Nat} {wh hv : Option Nat} {os : List (Nat × Bool)} {li : Option Int64} {ox : Int64}
def or2 (src : Str) (f : Nat) (os : List (Nat × Bool)) (x : Nat) (dn : Bool) (σ : PS) : Except Nat (List (Nat × Bool) × PS) := pTake true src "," σ >>= fun b => if b.1 = true then pOrdL true src f (os ++ [(x, dn)]) b.2 else .ok (os ++ [(x, dn)], b.2)
def or1 (src : Str) (f : Nat) (os : List (Nat × Bool)) (x : Nat) (σ : PS) : Except Nat (List (Nat × Bool) × PS) := pTake true src "desc" σ >>= fun b => if b.1 = true then or2 src f os x true b.2 else pTake true src "asc" b.2 >>= fun c => or2 src f os x false c.2
theorem pOrdL_eq (f : Nat) (hl : os.length ≠ 8) : pOrdL true src (f + 1) os σ = (pExpr true src 31 σ >>= fun x => or1 src f os x.1 x.2) := by
  conv => lhs; unfold pOrdL
  rw [if_neg (by simpa using hl)]
  cases pExpr true src 31 σ with
  | error e => rfl
  | ok x =>
    obtain ⟨x, τ⟩ := x
    show ((if (pIs τ "desc" || pIs τ "asc") = true then pNext true src τ else .ok ((), τ)) >>= _) = or1 src f os x τ
    have fin : ∀ dn τ2, (pTake true src "," τ2 >>= fun q => match q with | (b, σ) => if b = true then pOrdL true src f (os ++ [(x, dn)]) σ else Except.ok (os ++ [(x, dn)], σ)) = or2 src f os x dn τ2 := fun dn τ2 => by
      unfold or2
      cases pTake true src "," τ2 with
      | error e => rfl
      | ok b => rfl
    unfold or1
    cases hd : pIs τ "desc" with
    | true =>
      have e1 : pTake true src "desc" τ = (pNext true src τ).map fun q => (true, q.2) := by unfold pTake; rw [if_pos hd]
      rw [e1, if_pos (by rfl)]
      cases pNext true src τ with
      | error e => rfl
      | ok y => exact fin true y.2
    | false =>
      have e1 : pTake true src "desc" τ = .ok (false, τ) := by unfold pTake; rw [if_neg (by rw [hd]; simp)]
      rw [e1, ok_bind]
      cases ha : pIs τ "asc" with
      | true =>
        have e2 : pTake true src "asc" τ = (pNext true src τ).map fun q => (true, q.2) := by unfold pTake; rw [if_pos ha]
        rw [if_pos (by rfl)]
        show _ = (pTake true src "asc" τ >>= _)
        rw [e2]
        cases pNext true src τ with
        | error e => rfl
        | ok y => exact fin false y.2
      | false =>
        have e2 : pTake true src "asc" τ = .ok (false, τ) := by unfold pTake; rw [if_neg (by rw [ha]; simp)]
        rw [if_neg (by simp)]
        show _ = (pTake true src "asc" τ >>= _)
        rw [e2]
        exact fin false τ
theorem w_or79 {x : Nat} {dn : Bool} {K : Nat → Nat → JH → Prop} (hI0 : JInv D h0) (hs0 : s ≤ jsz h0) (S : SSt D p s a base src h0 σ0 ρ0 r h σ ρ ds is ss wh gs hv os none 0) (hx : x < (psA σ).length) (hl : os.length < 8) (e1 : jar h (jfr h 150 r) os.length = ρ x) (e2 : jai h (jfr h 151 r) os.length = if dn = true then 1 else 0) (hd : 11 ≤ d) (Q : JO → JH → Prop)
    (hK : ∀ h' σ', SSt D p s a base src h0 σ0 ρ0 r h' σ' ρ ds is ss wh gs hv (os ++ [(x, dn)]) none 0 → pTake true src "," σ = .ok (true, σ') → K p r h') (hQ : ∀ h' σ', SSt D p s a base src h0 σ0 ρ0 r h' σ' ρ ds is ss wh gs hv (os ++ [(x, dn)]) none 0 → pTake true src "," σ = .ok (false, σ') → Q (.inl none) h') (hE : ∀ y h' er, JInv D h' → pTake true src "," σ = .error er → PEr2 p s src h0 h' σ0 y er → Q (.inr y) h') : W_X17_orders_79 D d Q K p r h := by
  have u := S.2.2.2.1
  refine ⟨u.1.1.2.1, ?_⟩
  rw [u.2.2.2.2.1.2.1.1, nI_1]
  rintro h1 rfl
  have hI := S.2.1
  have S1 : SSt D p s a base src h0 σ0 ρ0 r (wfi h 153 r (nI (os.length + 1))) σ ρ ds is ss wh gs hv (os ++ [(x, dn)]) none 0 := ⟨POk.sfi S.1 hI hI0 hs0 (by rw [u.1.1.2.2]; decide) u.1.1.1, hI.wfi (hI.2.1 _ (by rw [u.1.1.2.2]; decide)) (hI.lt (by rw [u.1.1.2.2]; decide)), S.2.2.1, u.o3 hx hl e1 e2, S.2.2.2.2⟩
  generalize wfi h 153 r (nI (os.length + 1)) = h1 at S1 ⊢
  refine ⟨S1.1.1.1.2.1, S1.1.1.sg, ?_⟩
  rw [S1.1.1.1.2.2.1]
  refine useI (w_takes S1.1.1 "," (by decide +kernel) (by omega)) ?_ ?_
  · rintro v2 h2 hI2 _ ⟨b, σ2, e2, rfl, n2, q2, t2, f2⟩
    have S2 := S1.sg n2 hI2
    cases b with
    | true => exact ⟨fun _ => hK h2 σ2 S2 e2, fun z => absurd z (by decide)⟩
    | false => exact ⟨fun z => absurd rfl z, fun _ => hQ h2 σ2 S2 e2⟩
  · rintro y2 h2 hI2 _ ⟨er, e2, n2⟩
    exact hE y2 h2 er hI2 e2 (S1.1.err n2 (Or.inl rfl))
theorem w_ordL (hI0 : JInv D h0) (hs0 : s ≤ jsz h0) : ∀ f os σ ρ h d (Q : JO → JH → Prop), SSt D p s a base src h0 σ0 ρ0 r h σ ρ ds is ss wh gs hv os none 0 → 9 ≤ f + os.length → 350 ≤ d →
    (∀ h' l σ' ρ', SSt D p s a base src h0 σ0 ρ0 r h' σ' ρ' ds is ss wh gs hv l none 0 → pOrdL true src f os σ = .ok (l, σ') → Q (.inl none) h') → (∀ y h', JInv D h' → SeE p s src h0 σ0 (pOrdL true src f os σ) y h' → Q (.inr y) h') → L_X17_orders_10 D d Q f p r h
  | 0, os, σ, ρ, h, d, Q, S, hf, _, _, _ => by
    have := S.2.2.2.1.2.2.2.2.1.2.1.2
    exfalso; omega
  | f + 1, os, σ, ρ, h, d, Q, S, hf, hd, hQ, hE => by
    have u := S.2.2.2.1
    have hl := u.2.2.2.2.1.2.1.2
    have uc := u.2.2.2.2.1.2.1.1
    refine ⟨u.1.1.2.1, fun z => ⟨S.1.1.1.2.1, ?_⟩, fun z => ⟨S.1.1.1.2.1, useR0 (w_broken S.1.1 (by omega)) ?_⟩⟩
    · have hl' : os.length < 8 := by
        rcases Nat.lt_or_ge os.length 8 with y | y
        · exact y
        · exact absurd (by rw [uc, show os.length = 8 by omega]; rfl) z
      have eq0 := pOrdL_eq (src := src) (σ := σ) (os := os) f (by omega)
      refine useR (w_expr 31 σ ρ h d S.1.1 (by have := S.2.2.1; omega) (by have := S.2.2.1; omega)) ?_ ?_
      · rintro v1 h1 hI1 _ ⟨x, σ1, ρ1, e1, hv1, n1, l1⟩
        have S1 := S.pd n1 hI1
        have u1 := S1.2.2.2.1
        have xl := expr_lt e1 S.1.1.2.2.2.2.2.1
        have sr : same h h1 r := n1.obj S.1.1 S.2.1 (by rw [u.1.1.2.2]; decide)
        have A1 := u1.1.ary (x := (150, 155, 8)) (by decide)
        dsimp only at A1
        have eA : jfr h 150 r = jfr h1 150 r := (sr.fr 150).symm
        rw [eA, uc, ixn_nI (by omega), hv1]
        refine ⟨A1.2.2.2.1, by rw [A1.2.2.1]; exact jin_nI (by omega) (by omega), ?_⟩
        rintro h2 q2
        have nk := S1.1.1.nk xl
        have S2 : SSt D p s a base src h0 σ0 ρ0 r h2 σ1 ρ1 ds is ss wh gs hv os none 0 := by
          rw [q2]
          exact ⟨POk.sar S1.1 hI1 hI0 hs0 A1.1 (u1.1.2 (150, 155, 8) (by decide)).1, hI1.war (hI1.2.1 _ (by rw [A1.2.1]; decide)) (hI1.lt (by rw [A1.2.1]; decide)) (Or.inr (by rw [A1.2.1]; exact (sbt_node2 _ nk.2 nk.1).2.2.1)), S1.2.2.1, u1.o1, S1.2.2.2.2⟩
        have g2 : jar h2 (jfr h2 150 r) os.length = ρ1 x := by rw [q2]; show jar (war h1 (jfr h1 150 r) os.length (ρ1 x)) (jfr h1 150 r) os.length = _; simp only [jkd_wfi, jln_wfi, jfi_wfi, jfl_wfi, jfr_wfi, jai_wfi, jal_wfi, jar_wfi, jsz_wfi, jus_wfi, jkd_wfl, jln_wfl, jfi_wfl, jfl_wfl, jfr_wfl, jai_wfl, jal_wfl, jar_wfl, jsz_wfl, jus_wfl, jkd_wfr, jln_wfr, jfi_wfr, jfl_wfr, jfr_wfr, jai_wfr, jal_wfr, jar_wfr, jsz_wfr, jus_wfr, jkd_wai, jln_wai, jfi_wai, jfl_wai, jfr_wai, jai_wai, jal_wai, jar_wai, jsz_wai, jus_wai, jkd_wal, jln_wal, jfi_wal, jfl_wal, jfr_wal, jai_wal, jal_wal, jar_wal, jsz_wal, jus_wal, jkd_war, jln_war, jfi_war, jfl_war, jfr_war, jai_war, jal_war, jar_war, jsz_war, jus_war, jkd_nwo, jln_nwo, jfi_nwo, jfl_nwo, jfr_nwo, jai_nwo, jal_nwo, jar_nwo, jsz_nwo, jus_nwo, jkd_nwa, jln_nwa, jfi_nwa, jfl_nwa, jfr_nwa, jai_nwa, jal_nwa, jar_nwa, jsz_nwa, jus_nwa, jkd_cpa, jln_cpa, jfi_cpa, jfl_cpa, jfr_cpa, jai_cpa, jal_cpa, jar_cpa, jsz_cpa, jus_cpa, and_self, if_true]
        have u2 := S2.2.2.2.1
        clear q2
        refine ⟨S2.1.1.sg, ?_⟩
        rw [S2.1.1.1.2.2.1, u2.2.2.2.2.1.2.1.1, ixn_nI (by omega)]
        refine useI (w_takesWord S2.1.1 "desc" (by decide +kernel) (by omega)) ?_ ?_
        · rintro v3 h3 hI3 _ ⟨b, σ3, e3, rfl, n3, q3, t3, f3⟩
          have S3 := S2.sg n3 hI3
          have u3 := S3.2.2.2.1
          have sr3 : same h2 h3 r := POk.obj n3 S2.1.1 S2.2.1 (by rw [u2.1.1.2.2]; decide)
          have sA3 : same h2 h3 (jfr h2 150 r) := POk.obj n3 S2.1.1 S2.2.1 (u2.1.ary (x := (150, 155, 8)) (by decide)).1
          have g3 : jar h3 (jfr h3 150 r) os.length = ρ1 x := by rw [sr3.fr, sA3.ar]; exact g2
          have B3 := u3.1.ary (x := (151, 156, 8)) (by decide)
          dsimp only at B3
          have eB : jfr h2 151 r = jfr h3 151 r := (sr3.fr 151).symm
          rw [eB]
          refine ⟨B3.2.2.2.1, by rw [B3.2.2.1]; exact jin_nI (by omega) (by omega), by cases b; exact jbo0; exact jbo1, ?_⟩
          rintro h4 q4
          have S4 : SSt D p s a base src h0 σ0 ρ0 r h4 σ3 ρ1 ds is ss wh gs hv os none 0 := by
            rw [q4]
            exact ⟨POk.sai S3.1 hI3 hI0 hs0 B3.1 (u3.1.2 (151, 156, 8) (by decide)).1, hI3.wai (hI3.2.1 _ (by rw [B3.2.1]; decide)) (hI3.lt (by rw [B3.2.1]; decide)), S3.2.2.1, u3.o2, S3.2.2.2.2⟩
          have u4 := S4.2.2.2.1
          have g4 : jar h4 (jfr h4 150 r) os.length = ρ1 x := by rw [q4]; exact g3
          have g5 : jai h4 (jfr h4 151 r) os.length = if b = true then 1 else 0 := by rw [q4]; show jai (wai h3 (jfr h3 151 r) os.length (if b = true then 1 else 0)) (jfr h3 151 r) os.length = _; simp only [jkd_wfi, jln_wfi, jfi_wfi, jfl_wfi, jfr_wfi, jai_wfi, jal_wfi, jar_wfi, jsz_wfi, jus_wfi, jkd_wfl, jln_wfl, jfi_wfl, jfl_wfl, jfr_wfl, jai_wfl, jal_wfl, jar_wfl, jsz_wfl, jus_wfl, jkd_wfr, jln_wfr, jfi_wfr, jfl_wfr, jfr_wfr, jai_wfr, jal_wfr, jar_wfr, jsz_wfr, jus_wfr, jkd_wai, jln_wai, jfi_wai, jfl_wai, jfr_wai, jai_wai, jal_wai, jar_wai, jsz_wai, jus_wai, jkd_wal, jln_wal, jfi_wal, jfl_wal, jfr_wal, jai_wal, jal_wal, jar_wal, jsz_wal, jus_wal, jkd_war, jln_war, jfi_war, jfl_war, jfr_war, jai_war, jal_war, jar_war, jsz_war, jus_war, jkd_nwo, jln_nwo, jfi_nwo, jfl_nwo, jfr_nwo, jai_nwo, jal_nwo, jar_nwo, jsz_nwo, jus_nwo, jkd_nwa, jln_nwa, jfi_nwa, jfl_nwa, jfr_nwa, jai_nwa, jal_nwa, jar_nwa, jsz_nwa, jus_nwa, jkd_cpa, jln_cpa, jfi_cpa, jfl_cpa, jfr_cpa, jai_cpa, jal_cpa, jar_cpa, jsz_cpa, jus_cpa, and_self, if_true]
          have B4 := u4.1.ary (x := (151, 156, 8)) (by decide)
          dsimp only at B4
          have len3 : (psA σ3) = psA σ1 := by unfold psA; rw [q3]
          clear q4
          rw [u4.2.2.2.2.1.2.1.1, ixn_nI (by omega), g5]
          refine ⟨B4.2.2.2.1, by rw [B4.2.2.1]; exact jin_nI (by omega) (by omega), ?_⟩
          cases b with
          | true =>
            refine ⟨fun _ => ?_, fun z => absurd z (by decide)⟩
            have eq1 : pOrdL true src (f + 1) os σ = or2 src f os x true σ3 := by rw [eq0, e1, ok_bind]; unfold or1; rw [e3]; rfl
            refine w_or79 hI0 hs0 S4 (by rw [len3]; exact xl) hl' g4 g5 (by omega) Q ?_ ?_ ?_
            · rintro h5 σ5 S5 e5
              have eq2 : pOrdL true src (f + 1) os σ = pOrdL true src f (os ++ [(x, true)]) σ5 := by rw [eq1]; unfold or2; rw [e5]; rfl
              rw [eq2] at hQ hE
              exact w_ordL hI0 hs0 f _ σ5 ρ1 h5 d Q S5 (by simp; omega) hd hQ hE
            · rintro h5 σ5 S5 e5
              exact hQ h5 _ σ5 ρ1 S5 (by rw [eq1]; unfold or2; rw [e5]; rfl)
            · rintro y5 h5 er hI5 e5 n5
              exact hE y5 h5 hI5 ⟨er, by rw [eq1]; unfold or2; rw [e5]; rfl, n5⟩
          | false =>
            refine ⟨fun z => absurd rfl z, fun _ => ⟨S4.1.1.sg, ?_⟩⟩
            rw [S4.1.1.1.2.2.1]
            have eq1 : pOrdL true src (f + 1) os σ = (pTake true src "asc" σ3 >>= fun c => or2 src f os x false c.2) := by rw [eq0, e1, ok_bind]; unfold or1; rw [e3]; rfl
            refine useI (w_takesWord S4.1.1 "asc" (by decide +kernel) (by omega)) ?_ ?_
            · rintro v6 h6 hI6 _ ⟨b6, σ6, e6, _, n6, q6, t6, f6⟩
              have S6 := S4.sg n6 hI6
              have sr6 : same h4 h6 r := POk.obj n6 S4.1.1 S4.2.1 (by rw [u4.1.1.2.2]; decide)
              have g6 : jar h6 (jfr h6 150 r) os.length = ρ1 x := by rw [sr6.fr, (POk.obj n6 S4.1.1 S4.2.1 (u4.1.ary (x := (150, 155, 8)) (by decide)).1 : same h4 h6 (jfr h4 150 r)).ar]; exact g4
              have g7 : jai h6 (jfr h6 151 r) os.length = if false = true then 1 else 0 := by rw [sr6.fr, (POk.obj n6 S4.1.1 S4.2.1 B4.1 : same h4 h6 (jfr h4 151 r)).ai]; exact g5
              have len6 : (psA σ6) = psA σ1 := by rw [← len3]; unfold psA; rw [q6]
              rw [e6, ok_bind] at eq1
              refine w_or79 hI0 hs0 S6 (by rw [len6]; exact xl) hl' g6 g7 (by omega) Q ?_ ?_ ?_
              · rintro h7 σ7 S7 e7
                have eq2 : pOrdL true src (f + 1) os σ = pOrdL true src f (os ++ [(x, false)]) σ7 := by rw [eq1]; unfold or2; rw [e7]; rfl
                rw [eq2] at hQ hE
                exact w_ordL hI0 hs0 f _ σ7 ρ1 h7 d Q S7 (by simp; omega) hd hQ hE
              · rintro h7 σ7 S7 e7
                exact hQ h7 _ σ7 ρ1 S7 (by rw [eq1]; unfold or2; rw [e7]; rfl)
              · rintro y7 h7 er hI7 e7 n7
                exact hE y7 h7 hI7 ⟨er, by rw [eq1]; unfold or2; rw [e7]; rfl, n7⟩
            · rintro y6 h6 hI6 _ ⟨er, e6, n6⟩
              exact hE y6 h6 hI6 ⟨er, by rw [eq1, e6]; rfl, S4.1.err n6 (Or.inl rfl)⟩
        · rintro y3 h3 hI3 _ ⟨er, e3, n3⟩
          exact hE y3 h3 hI3 ⟨er, by rw [eq0, e1, ok_bind]; unfold or1; rw [e3]; rfl, S2.1.err n3 (Or.inl rfl)⟩
      · rintro y1 h1 hI1 _ ⟨er, e1, n1⟩
        exact hE y1 h1 hI1 ⟨er, by rw [eq0, e1]; rfl, S.1.err n1 (Or.inr (Or.inl rfl))⟩
    · rintro y1 h1 hI1 _ n1
      refine ⟨n1.1.1, hE y1 h1 hI1 ⟨tkF (psT σ) + 1, ?_, S.1.err n1 (Or.inl rfl)⟩⟩
      have e8 : os.length = 8 := (nI_eq (b := 8) (by omega) (by omega)).mp (by rw [← uc]; exact z)
      unfold pOrdL
      rw [if_pos (by rw [e8]; rfl)]; rfl
def orS (src : Str) (σ : PS) : Except Nat (List (Nat × Bool) × PS) := pNeed true src "by" σ >>= fun o => pOrdL true src 9 [] o.2
theorem w_orders (hI0 : JInv D h0) (hs0 : s ≤ jsz h0) (S : SSt D p s a base src h0 σ0 ρ0 r h σ ρ ds is ss wh gs hv [] none 0) (hd : 351 ≤ d) :
    cX17_orders D d p r h (pV D h (fun h' => ∃ l σ' ρ', orS src σ = .ok (l, σ') ∧ SSt D p s a base src h0 σ0 ρ0 r h' σ' ρ' ds is ss wh gs hv l none 0) (fun y h' => SeE p s src h0 σ0 (orS src σ) y h')) := by
  obtain ⟨e, rfl, he⟩ := dsucc hd
  refine t_X17_orders ⟨S.1.1.1.2.1, S.1.1.sg, ?_⟩
  rw [S.1.1.1.2.2.1]
  refine useV (w_needWord S.1.1 "by" (by decide +kernel) (by omega)) ?_ ?_
  · rintro h1 hI1 _ ⟨σ1, e1, n1, l1, q1⟩
    have eq0 : orS src σ = pOrdL true src 9 [] σ1 := by unfold orS; rw [e1]; rfl
    refine ⟨9, w_ordL hI0 hs0 9 [] σ1 ρ h1 e _ (S.sg n1 hI1) (by decide) (by omega) ?_ ?_⟩
    · rintro h2 l2 σ2 ρ2 S2 e2
      exact endV fun _ _ => ⟨l2, σ2, ρ2, by rw [eq0]; exact e2, S2⟩
    · rintro y2 h2 hI2 ⟨er, e2, n2⟩
      exact fun _ _ => ⟨er, by rw [eq0]; exact e2, n2⟩
  · rintro y1 h1 hI1 _ ⟨er, e1, n1⟩
    exact fun _ _ => ⟨er, by unfold orS; rw [e1]; rfl, S.1.err n1 (Or.inl rfl)⟩
theorem pOrders_eq : pOrders true src σ = (pTake true src "order" σ >>= fun b => if b.1 = true then orS src b.2 else .ok ([], b.2)) := by
  unfold pOrders
  cases pTake true src "order" σ with
  | error e => rfl
  | ok b =>
    obtain ⟨b, τ⟩ := b
    cases b <;> rfl
theorem w_sel235 (hI0 : JInv D h0) (hs0 : s ≤ jsz h0) (S : SSt D p s a base src h0 σ0 ρ0 r h σ ρ ds is ss wh gs hv [] none 0) (hd : 351 ≤ d) (Q : JO → JH → Prop) (hQ : ∀ h', JInv D h' → SeP D p s a base src h0 σ0 ρ0 r (sl5 src ds is ss wh gs hv σ) h' → Q (.inl (some (vR 57 r))) h') (hE : ∀ y h', JInv D h' → SeE p s src h0 σ0 (sl5 src ds is ss wh gs hv σ) y h' → Q (.inr y) h') : W_X17_select_235 D d Q p r h := by
  refine ⟨S.1.1.1.2.1, S.1.1.sg, ?_⟩
  rw [S.1.1.1.2.2.1]
  refine useI (w_takesWord S.1.1 "order" (by decide +kernel) (by omega)) ?_ ?_
  · rintro v1 h1 hI1 _ ⟨b, σ1, e1, rfl, n1, q1, t1, f1⟩
    have S1 := S.sg n1 hI1
    cases b with
    | false =>
      have eq : sl5 src ds is ss wh gs hv σ = sl6 src ds is ss wh gs hv [] σ1 := by unfold sl5; rw [pOrders_eq, e1]; rfl
      rw [eq] at hQ hE
      exact ⟨fun _ => w_sel253 hI0 hs0 S1 (by omega) Q hQ hE, fun z => absurd rfl z⟩
    | true =>
      have eq : sl5 src ds is ss wh gs hv σ = (orS src σ1 >>= fun x => sl6 src ds is ss wh gs hv x.1 x.2) := by unfold sl5; rw [pOrders_eq, e1]; rfl
      rw [eq] at hQ hE
      refine ⟨fun z => absurd z (by decide), fun _ => useV (w_orders hI0 hs0 S1 hd) ?_ ?_⟩
      · rintro h2 hI2 _ ⟨l, σ2, ρ2, e2, S2⟩
        rw [e2, ok_bind] at hQ hE
        exact w_sel253 hI0 hs0 S2 (by omega) Q hQ hE
      · rintro y2 h2 hI2 _ ⟨er, e2, n2⟩
        exact hE y2 h2 hI2 ⟨er, by rw [e2]; rfl, n2⟩
  · rintro y1 h1 hI1 _ ⟨er, e1, n1⟩
    exact hE y1 h1 hI1 ⟨er, by unfold sl5; rw [pOrders_eq, e1]; rfl, S.1.err n1 (Or.inl rfl)⟩
end
