/-! the parser of the component: SELECT -/
section
variable {D : JD} {p s a base : Nat} {src : Str} {h h' h'' h0 h2 : JH} {σ σ' σ'' σ0 σ2 : PS} {ρ ρ' ρ'' ρ0 : Nat → Nat} {n m n' m' n1 m1 : Int} {d c r q w arr N L L' l : Nat} {ds : Bool} {is : List Itm} {ss : List Src} {gs : List Nat} {wh hv : Option Nat} {os : List (Nat × Bool)} {li : Option Int64} {ox : Int64}
def scL (src : Str) (ds : Bool) (is : List Itm) (f : Nat) (ss : List Src) (σ : PS) : Except Nat (Stm × PS) := pSources true src f ss σ >>= fun x => sl2 src ds is x.1 x.2
def scJ (src : Str) (ds : Bool) (is : List Itm) (f : Nat) (ss : List Src) (σ : PS) : Except Nat (Stm × PS) := pTake true src "left" σ >>= fun lf => pNeed true src "join" lf.2 >>= fun o => pSource true src ss.length true lf.1 o.2 >>= fun x => scL src ds is f (ss ++ [x.1]) x.2
theorem scL_eq (f : Nat) : scL src ds is (f + 1) ss σ = (pTake true src "," σ >>= fun b => if b.1 = true then pSource true src ss.length false false b.2 >>= fun x => scL src ds is f (ss ++ [x.1]) x.2 else if (pIs b.2 "left" || pIs b.2 "join") = true then scJ src ds is f ss b.2 else sl2 src ds is ss b.2) := by
  unfold scL
  conv => lhs; unfold pSources
  cases hc : pIs σ "," with
  | true =>
    have e1 : pTake true src "," σ = (pNext true src σ).map fun q => (true, q.2) := by unfold pTake; rw [if_pos hc]
    rw [e1, if_pos rfl]
    cases pNext true src σ with
    | error e => rfl
    | ok y =>
      show ((pSource true src ss.length false false y.2 >>= _) >>= _) = (pSource true src ss.length false false y.2 >>= _)
      cases pSource true src ss.length false false y.2 <;> rfl
  | false =>
    have e1 : pTake true src "," σ = .ok (false, σ) := by unfold pTake; rw [if_neg (by rw [hc]; simp)]
    rw [e1, ok_bind, if_neg (by simp)]
    show _ = (if (pIs σ "left" || pIs σ "join") = true then _ else _)
    by_cases e : (pIs σ "left" || pIs σ "join") = true
    · rw [if_pos e, if_pos e]
      unfold scJ
      cases pTake true src "left" σ with
      | error e => rfl
      | ok lf =>
        show ((pNeed true src "join" lf.2 >>= _) >>= _) = (pNeed true src "join" lf.2 >>= _)
        cases pNeed true src "join" lf.2 with
        | error e => rfl
        | ok o =>
          show ((pSource true src ss.length true lf.1 o.2 >>= _) >>= _) = (pSource true src ss.length true lf.1 o.2 >>= _)
          cases pSource true src ss.length true lf.1 o.2 <;> rfl
    · rw [if_neg e, if_neg e]; rfl
theorem w_srcL (hI0 : JInv D h0) (hs0 : s ≤ jsz h0) : ∀ f ss σ ρ h d (Q : JO → JH → Prop), SSt D p s a base src h0 σ0 ρ0 r h σ ρ ds is ss none [] none [] none 0 → 6 ≤ f + ss.length → 351 ≤ d →
    (∀ h', JInv D h' → SeP D p s a base src h0 σ0 ρ0 r (scL src ds is f ss σ) h' → Q (.inl (some (vR 57 r))) h') → (∀ y h', JInv D h' → SeE p s src h0 σ0 (scL src ds is f ss σ) y h' → Q (.inr y) h') → L_X17_select_60 D d Q f p r h
  | 0, ss, σ, ρ, h, d, Q, S, hf, _, _, _ => by
    have := S.2.2.2.1.2.2.1.2.1.2
    exfalso; omega
  | f + 1, ss, σ, ρ, h, d, Q, S, hf, hd, hQ, hE => by
    rw [scL_eq] at hQ hE
    refine ⟨S.1.1.1.2.1, S.1.1.sg, ?_⟩
    rw [S.1.1.1.2.2.1]
    refine useI (w_takes S.1.1 "," (by decide +kernel) (by omega)) ?_ ?_
    · rintro v1 h1 hI1 _ ⟨b, σ1, e1, rfl, n1, q1, t1, f1⟩
      have S1 := S.sg n1 hI1
      rw [e1, ok_bind] at hQ hE
      cases b with
      | true =>
        refine ⟨fun z => absurd z (by decide), fun _ => useV (w_source (jn := false) (lf := false) hI0 hs0 S1.1 S1.2.2.1 S1.2.2.2.1 rfl rfl hd) ?_ ?_⟩
        · rintro h2 hI2 _ ⟨v, σ2, ρ2, e2, k2, u2, l2, o2⟩
          have eq : (if (true, σ1).1 = true then pSource true src ss.length false false (true, σ1).2 >>= fun x => scL src ds is f (ss ++ [x.1]) x.2 else if (pIs (true, σ1).2 "left" || pIs (true, σ1).2 "join") = true then scJ src ds is f ss (true, σ1).2 else sl2 src ds is ss (true, σ1).2) = scL src ds is f (ss ++ [v]) σ2 := by rw [if_pos rfl, e2]; rfl
          rw [eq] at hQ hE
          exact w_srcL hI0 hs0 f _ σ2 ρ2 h2 d Q ⟨k2, hI2, o2, u2, by have := S1.2.2.2.2; omega⟩ (by simp; omega) hd hQ hE
        · rintro y2 h2 hI2 _ ⟨er, e2, n2⟩
          exact hE y2 h2 hI2 ⟨er, by rw [if_pos rfl, e2]; rfl, n2⟩
      | false =>
        obtain ⟨i1, rfl, rfl⟩ := f1 rfl
        refine ⟨fun _ => ⟨S.1.1.sg, ?_⟩, fun z => absurd rfl z⟩
        rw [if_neg (by simp)] at hQ hE
        -- JOIN
        have go : (pIs σ1 "left" || pIs σ1 "join") = true → W_X17_select_106 D d Q (L_X17_select_60 D d Q f) p r h1 := fun hj => by
          have hj' : (pIs (false, σ1).2 "left" || pIs (false, σ1).2 "join") = true := hj
          rw [if_pos hj'] at hQ hE
          refine ⟨S.1.1.1.2.1, S.1.1.sg, ?_⟩
          rw [S.1.1.1.2.2.1]
          refine useI (w_takesWord S.1.1 "left" (by decide +kernel) (by omega)) ?_ ?_
          · rintro v3 h3 hI3 _ ⟨b, σ3, e3, rfl, n3, q3, t3, f3⟩
            have S3 := S.sg n3 hI3
            refine ⟨S3.1.1.sg, ?_⟩
            rw [S3.1.1.1.2.2.1]
            refine useV (w_needWord S3.1.1 "join" (by decide +kernel) (by omega)) ?_ ?_
            · rintro h4 hI4 _ ⟨σ4, e4, n4, l4, q4⟩
              have S4 := S3.sg n4 hI4
              refine useV (w_source (jn := true) (lf := b) hI0 hs0 S4.1 S4.2.2.1 S4.2.2.2.1 rfl rfl hd) ?_ ?_
              · rintro h5 hI5 _ ⟨v, σ5, ρ5, e5, k5, u5, l5, o5⟩
                have eq : scJ src ds is f ss (false, σ1).2 = scL src ds is f (ss ++ [v]) σ5 := by show scJ src ds is f ss σ1 = _; unfold scJ; rw [e3, ok_bind, e4, ok_bind, e5]; rfl
                rw [eq] at hQ hE
                exact w_srcL hI0 hs0 f _ σ5 ρ5 h5 d Q ⟨k5, hI5, o5, u5, by have := S4.2.2.2.2; omega⟩ (by simp; omega) hd hQ hE
              · rintro y5 h5 hI5 _ ⟨er, e5, n5⟩
                exact hE y5 h5 hI5 ⟨er, by show scJ src ds is f ss σ1 = _; unfold scJ; rw [e3, ok_bind, e4, ok_bind, e5]; rfl, n5⟩
            · rintro y4 h4 hI4 _ ⟨er, e4, n4⟩
              exact hE y4 h4 hI4 ⟨er, by show scJ src ds is f ss σ1 = _; unfold scJ; rw [e3, ok_bind, e4]; rfl, S3.1.err n4 (Or.inl rfl)⟩
          · rintro y3 h3 hI3 _ ⟨er, e3, n3⟩
            exact hE y3 h3 hI3 ⟨er, by show scJ src ds is f ss σ1 = _; unfold scJ; rw [e3]; rfl, S.1.err n3 (Or.inl rfl)⟩
        rw [S.1.1.1.2.2.1]
        refine useI0 (w_isWord S.1.1 "left" (by decide +kernel) (by omega)) ?_
        rintro v2 h2 _ _ ⟨rfl, rfl⟩
        by_cases il : pIs σ1 "left" = true
        · rw [if_pos il]
          exact ⟨fun _ => go (by rw [il]; rfl), fun z => absurd z (by decide)⟩
        rw [if_neg il]
        refine ⟨fun z => absurd rfl z, fun _ => ⟨S.1.1.sg, ?_⟩⟩
        rw [S.1.1.1.2.2.1]
        refine useI0 (w_isWord S.1.1 "join" (by decide +kernel) (by omega)) ?_
        rintro v3 h3 _ _ ⟨rfl, rfl⟩
        by_cases ij : pIs σ1 "join" = true
        · rw [if_pos ij]
          exact ⟨fun z => absurd z (by decide), fun _ => go (by rw [ij]; simp)⟩
        · rw [if_neg ij]
          have hj' : ¬ (pIs (false, σ1).2 "left" || pIs (false, σ1).2 "join") = true := by show ¬ (pIs σ1 "left" || pIs σ1 "join") = true; rw [Bool.eq_false_iff.mpr il, Bool.eq_false_iff.mpr ij]; simp
          rw [if_neg hj'] at hQ hE
          exact ⟨fun _ => w_sel135 hI0 hs0 S hd Q hQ hE, fun z => absurd rfl z⟩
    · rintro y1 h1 hI1 _ ⟨er, e1, n1⟩
      exact hE y1 h1 hI1 ⟨er, by rw [e1]; rfl, S.1.err n1 (Or.inl rfl)⟩
theorem sl1_eq : sl1 src ds is σ = (pTake true src "from" σ >>= fun b => if b.1 = true then pSource true src 0 false false b.2 >>= fun x => scL src ds is 5 [x.1] x.2 else sl2 src ds is [] b.2) := by
  unfold sl1 pFrom
  cases pTake true src "from" σ with
  | error e => rfl
  | ok b =>
    obtain ⟨b, τ⟩ := b
    cases b with
    | false => rfl
    | true =>
      show ((pSource true src 0 false false τ >>= _) >>= _) = (pSource true src 0 false false τ >>= _)
      cases pSource true src 0 false false τ <;> rfl
def itL (src : Str) (ds : Bool) (f : Nat) (is : List Itm) (σ : PS) : Except Nat (Stm × PS) := pItems true src f is σ >>= fun x => sl1 src ds x.1 x.2
theorem itL_eq (f : Nat) : itL src ds (f + 1) is σ = (iS src is.length σ >>= fun c => pTake true src "," c.2 >>= fun b => if b.1 = true then itL src ds f (is ++ [c.1]) b.2 else sl1 src ds (is ++ [c.1]) b.2) := by
  unfold itL iS
  conv => lhs; unfold pItems
  by_cases e : (is.length == 12) = true
  · rw [if_pos e, if_pos e]; rfl
  · rw [if_neg e, if_neg e]
    cases pItem true src σ with
    | error e => rfl
    | ok c =>
      show ((pTake true src "," c.2 >>= _) >>= _) = (pTake true src "," c.2 >>= _)
      cases pTake true src "," c.2 with
      | error e => rfl
      | ok b =>
        obtain ⟨b, τ⟩ := b
        cases b <;> rfl
theorem w_itmL (hI0 : JInv D h0) (hs0 : s ≤ jsz h0) : ∀ f is σ ρ h d (Q : JO → JH → Prop), SSt D p s a base src h0 σ0 ρ0 r h σ ρ ds is [] none [] none [] none 0 → is.length ≤ 12 → 13 ≤ f + is.length → 352 ≤ d →
    (∀ h', JInv D h' → SeP D p s a base src h0 σ0 ρ0 r (itL src ds f is σ) h' → Q (.inl (some (vR 57 r))) h') → (∀ y h', JInv D h' → SeE p s src h0 σ0 (itL src ds f is σ) y h' → Q (.inr y) h') → L_X17_select_24 D d Q f p r h
  | 0, is, σ, ρ, h, d, Q, S, hl, hf, _, _, _ => by exfalso; omega
  | f + 1, is, σ, ρ, h, d, Q, S, hl, hf, hd, hQ, hE => by
    rw [itL_eq] at hQ hE
    refine ⟨S.1.1.1.2.1, useV (w_item S.1 hI0 hs0 S.2.2.1 S.2.2.2.1 hl hd) ?_ ?_⟩
    · rintro h1 hI1 _ ⟨it, σ1, ρ1, e1, k1, u1, l1, o1⟩
      rw [e1, ok_bind] at hQ hE
      have hl' : is.length < 12 := by
        rcases Nat.lt_or_ge is.length 12 with y | y
        · exact y
        · unfold iS at e1
          rw [if_pos (by rw [show is.length = 12 by omega]; rfl)] at e1
          cases e1
      have S1 : SSt D p s a base src h0 σ0 ρ0 r h1 σ1 ρ1 ds (is ++ [it]) [] none [] none [] none 0 := ⟨k1, hI1, o1, by rw [show (is ++ [it]).length = is.length + 1 by simp]; exact u1, by have := S.2.2.2.2; omega⟩
      refine ⟨S1.1.1.sg, ?_⟩
      rw [S1.1.1.1.2.2.1]
      refine useI (w_takes S1.1.1 "," (by decide +kernel) (by omega)) ?_ ?_
      · rintro v2 h2 hI2 _ ⟨b, σ2, e2, rfl, n2, q2, t2, f2⟩
        have S2 := S1.sg n2 hI2
        rw [e2, ok_bind] at hQ hE
        cases b with
        | true => exact ⟨fun _ => w_itmL hI0 hs0 f _ σ2 ρ1 h2 d Q S2 (by simp; omega) (by simp; omega) hd hQ hE, fun z => absurd z (by decide)⟩
        | false =>
          rw [if_neg (by simp), sl1_eq] at hQ hE
          refine ⟨fun z => absurd rfl z, fun _ => ⟨S2.1.1.sg, ?_⟩⟩
          rw [S2.1.1.1.2.2.1]
          refine useI (w_takesWord S2.1.1 "from" (by decide +kernel) (by omega)) ?_ ?_
          · rintro v3 h3 hI3 _ ⟨b, σ3, e3, rfl, n3, q3, t3, f3⟩
            have S3 := S2.sg n3 hI3
            rw [e3, ok_bind] at hQ hE
            cases b with
            | false => exact ⟨fun _ => w_sel135 hI0 hs0 S3 (by omega) Q hQ hE, fun z => absurd rfl z⟩
            | true =>
              refine ⟨fun z => absurd z (by decide), fun _ => useV (w_source (jn := false) (lf := false) hI0 hs0 S3.1 S3.2.2.1 S3.2.2.2.1 rfl rfl (by omega)) ?_ ?_⟩
              · rintro h4 hI4 _ ⟨v, σ4, ρ4, e4, k4, u4, l4, o4⟩
                have e4 : pSource true src 0 false false σ3 = .ok (v, σ4) := e4
                have eq : (if (true, σ3).1 = true then pSource true src 0 false false (true, σ3).2 >>= fun x => scL src ds (is ++ [it]) 5 [x.1] x.2 else sl2 src ds (is ++ [it]) [] (true, σ3).2) = scL src ds (is ++ [it]) 5 [v] σ4 := by rw [if_pos rfl, e4]; rfl
                rw [eq] at hQ hE
                exact ⟨5, w_srcL hI0 hs0 5 [v] σ4 ρ4 h4 d Q ⟨k4, hI4, o4, u4, by have := S3.2.2.2.2; omega⟩ (by simp) (by omega) hQ hE⟩
              · rintro y4 h4 hI4 _ ⟨er, e4, n4⟩
                have e4 : pSource true src 0 false false σ3 = .error er := e4
                exact hE y4 h4 hI4 ⟨er, by rw [if_pos rfl, e4]; rfl, n4⟩
          · rintro y3 h3 hI3 _ ⟨er, e3, n3⟩
            exact hE y3 h3 hI3 ⟨er, by rw [e3]; rfl, S2.1.err n3 (Or.inl rfl)⟩
      · rintro y2 h2 hI2 _ ⟨er, e2, n2⟩
        exact hE y2 h2 hI2 ⟨er, by rw [e2]; rfl, S1.1.err n2 (Or.inl rfl)⟩
    · rintro y1 h1 hI1 _ ⟨er, e1, n1⟩
      exact hE y1 h1 hI1 ⟨er, by rw [e1]; rfl, n1⟩
/-- what a step gives that makes a statement -/
def OP2 {α : Type} (D : JD) (p s a base : Nat) (src : Str) (h : JH) (σ : PS) (ρ : Nat → Nat) (R : JH → (Nat → Nat) → Nat → α → Prop) (x : Except Nat (α × PS)) (v : Nat) (h' : JH) : Prop :=
  ∃ y σ' ρ', x = .ok (y, σ') ∧ R h' ρ' v y ∧ jsz h < v ∧ Pd2 D p s a base src h h' σ σ' ρ ρ' ∧ lp σ + 1 ≤ lp σ'
def slS (src : Str) (σ : PS) : Except Nat (Stm × PS) := pNext true src σ >>= fun q => pSelect true src q.2
theorem w_select (k : PsR D p s a base src h σ ρ) (hk : tkK (psT σ) ≠ 0) (ho : psO σ = 0) (hd : 353 ≤ d) :
    cX17_select D d p h (pR D h 57 (OP2 D p s a base src h σ ρ (fun h' ρ' v y => SelR h' ρ' v y) (slS src σ)) (SeE p s src h σ (slS src σ))) := by
  obtain ⟨e, rfl, he⟩ := dsucc hd
  refine JW.inv fun hI => t_X17_select ⟨k.1.2.1, k.sg, ?_⟩
  rw [k.1.2.2.1]
  have sh : s ≤ jsz h := POk.s0 k hI
  refine useV (w_next k hk (by omega)) ?_ ?_
  · rintro h1 hI1 _ ⟨σ1, e1, n1, l1, q1⟩
    rintro r h2 rfl rfl
    have lt1 : jsz h ≤ jsz h1 := n1.2.1.2.2.2.1.1
    have n2 := n1.pok.nO (kk := 33) (N := 20) hI1 hI sh rfl
    have hI2 : JInv D (nwo h1 33 20) := hI1.nO (by decide)
    have d2 : jkd (nwo h1 33 20) (jsz h1 + 1) = 33 := by simp only [jkd_wfi, jln_wfi, jfi_wfi, jfl_wfi, jfr_wfi, jai_wfi, jal_wfi, jar_wfi, jsz_wfi, jus_wfi, jkd_wfl, jln_wfl, jfi_wfl, jfl_wfl, jfr_wfl, jai_wfl, jal_wfl, jar_wfl, jsz_wfl, jus_wfl, jkd_wfr, jln_wfr, jfi_wfr, jfl_wfr, jfr_wfr, jai_wfr, jal_wfr, jar_wfr, jsz_wfr, jus_wfr, jkd_wai, jln_wai, jfi_wai, jfl_wai, jfr_wai, jai_wai, jal_wai, jar_wai, jsz_wai, jus_wai, jkd_wal, jln_wal, jfi_wal, jfl_wal, jfr_wal, jai_wal, jal_wal, jar_wal, jsz_wal, jus_wal, jkd_war, jln_war, jfi_war, jfl_war, jfr_war, jai_war, jal_war, jar_war, jsz_war, jus_war, jkd_nwo, jln_nwo, jfi_nwo, jfl_nwo, jfr_nwo, jai_nwo, jal_nwo, jar_nwo, jsz_nwo, jus_nwo, jkd_nwa, jln_nwa, jfi_nwa, jfl_nwa, jfr_nwa, jai_nwa, jal_nwa, jar_nwa, jsz_nwa, jus_nwa, jkd_cpa, jln_cpa, jfi_cpa, jfl_cpa, jfr_cpa, jai_cpa, jal_cpa, jar_cpa, jsz_cpa, jus_cpa, if_true]
    have zi : ∀ F, jfi (nwo h1 33 20) F (jsz h1 + 1) = 0 := fun F => hI1.zi (Nat.lt_succ_self _) F
    have zr : ∀ F, jfr (nwo h1 33 20) F (jsz h1 + 1) = 0 := fun F => hI1.zr (Nat.lt_succ_self _) F
    have zl : ∀ F, jfl (nwo h1 33 20) F (jsz h1 + 1) = 0 := fun F => hI1.zl (Nat.lt_succ_self _) F
    have rg : jsz h < jsz h1 + 1 := by omega
    generalize nwo h1 33 20 = h2 at n2 hI2 d2 zi zr zl ⊢
    generalize jsz h1 + 1 = r at d2 zi zr zl rg ⊢
    refine ⟨n2.1.sg, ?_⟩
    rw [n2.1.1.2.2.1]
    refine useI (w_takesWord n2.1 "distinct" (by decide +kernel) (by omega)) ?_ ?_
    · rintro v3 h3 hI3 _ ⟨b, σ3, e3, rfl, n3, q3, t3, f3⟩
      have sr : same h2 h3 r := POk.obj n3 n2.1 hI2 (by rw [d2]; decide)
      have ml3 := n3.2.2.2.2.2
      have n23 := n2.tr n3
      refine useV0 (w_selInit (ds := b) (L := (psA σ3).length) n23 hI sh (by rw [sr.kd]; exact d2) rg (fun F => by rw [sr.fi]; exact zi F) (fun F => by rw [sr.fr]; exact zr F) (fun F => by rw [sr.fl]; exact zl F) rfl (by omega)) ?_
      rintro h4 hI4 _ ⟨k4, u4⟩
      have S4 : SSt D p s a base src h σ ρ r h4 σ3 ρ b [] [] none [] none [] none 0 := ⟨k4.mono (by omega) (by omega), hI4, by rw [← ho]; unfold psO; rw [q3, q1], u4, by omega⟩
      have eq0 : slS src σ = itL src b 13 [] σ3 := by
        unfold slS
        rw [e1, ok_bind, pSelect_eq, e3]; rfl
      refine ⟨13, w_itmL hI sh 13 [] σ3 ρ h4 e _ S4 (by decide) (by decide) (by omega) ?_ ?_⟩
      · rintro h5 hI5 ⟨y, σ5, ρ5, e5, c5, k5, l5⟩
        exact endR fun _ _ _ => ⟨y, σ5, ρ5, by rw [eq0]; exact e5, c5, rg, k5, l5⟩
      · rintro y5 h5 hI5 ⟨er, e5, x5⟩
        exact endX fun _ _ => ⟨er, by rw [eq0]; exact e5, x5⟩
    · rintro y3 h3 hI3 _ ⟨er, e3, n3⟩
      exact endX fun _ _ => ⟨er, by unfold slS; rw [e1, ok_bind, pSelect_eq, e3]; rfl, n2.er2 (by omega) (by omega) n3⟩
  · rintro y1 h1 hI1 _ ⟨er, e1, n1⟩
    exact endX fun _ _ => ⟨er, by unfold slS; rw [e1]; rfl, n1.two (Or.inl rfl)⟩
end
