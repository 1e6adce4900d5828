/-! the parser of the component: SELECT, its end: LIMIT, OFFSET, ORDER BY -/
section
variable {D : JD} {p s a base : Nat} {src : Str} {h h' h'' h0 h2 : JH} {σ σ' σ'' σ0 σ2 : PS} {ρ ρ' ρ'' ρ0 : Nat → Nat} {n m n' m' n1 m1 : Int} {d c r q w arr N L L' l : Nat} {ds : Bool} {is : List Itm} {ss : List Src} {gs : List Nat} {wh hv : Option Nat} {os : List (Nat × Bool)} {li : Option Int64} {ox : Int64}
def SelR (h : JH) (ρ : Nat → Nat) (v : Nat) (y : Stm) : Prop := ∃ N L, SelS N h ρ L v (slI (smS y)).length (slD (smS y)) (slI (smS y)) (slF (smS y)) (smW y) (slG (smS y)) (slH (smS y)) (slO (smS y)) (slL (smS y)) (slX (smS y))
/-- SELECT is being read -/
def SSt (D : JD) (p s a base : Nat) (src : Str) (h0 : JH) (σ0 : PS) (ρ0 : Nat → Nat) (r : Nat) (h : JH) (σ : PS) (ρ : Nat → Nat) (ds : Bool) (is : List Itm) (ss : List Src) (wh : Option Nat) (gs : List Nat) (hv : Option Nat) (os : List (Nat × Bool)) (li : Option Int64) (ox : Int64) : Prop :=
  Pd2 D p s a base src h0 h σ0 σ ρ0 ρ ∧ JInv D h ∧ psO σ = 0 ∧ SelS (jsz h0) h ρ (psA σ).length r is.length ds is ss wh gs hv os li ox ∧ lp σ0 + 1 ≤ lp σ
def SeP (D : JD) (p s a base : Nat) (src : Str) (h0 : JH) (σ0 : PS) (ρ0 : Nat → Nat) (r : Nat) (x : Except Nat (Stm × PS)) (h' : JH) : Prop := ∃ y σ' ρ', x = .ok (y, σ') ∧ SelR h' ρ' r y ∧ Pd2 D p s a base src h0 h' σ0 σ' ρ0 ρ' ∧ lp σ0 + 1 ≤ lp σ'
def SeE {α : Type} (p s : Nat) (src : Str) (h0 : JH) (σ0 : PS) (x : Except Nat (α × PS)) (y : Nat) (h' : JH) : Prop := ∃ er, x = .error er ∧ PEr2 p s src h0 h' σ0 y er
theorem SSt.go (S : SSt D p s a base src h0 σ0 ρ0 r h σ ρ ds is ss wh gs hv os li ox) (k : POk D p s a base src h h' σ σ' ρ ρ' n m) (hI' : JInv D h') (hn : n ≤ 80 * (lp σ' - lp σ)) (hm : m ≤ 2400 * (lp σ' - lp σ)) : SSt D p s a base src h0 σ0 ρ0 r h' σ' ρ' ds is ss wh gs hv os li ox :=
  ⟨Pd2.tr S.1 k hn hm, hI', by rw [← S.2.2.1]; exact k.2.2.2.2.1.1, k.selS S.1.1 S.2.1 S.2.2.2.1, by have := S.2.2.2.2; have := k.2.2.2.2.2; omega⟩
theorem SSt.sg (S : SSt D p s a base src h0 σ0 ρ0 r h σ ρ ds is ss wh gs hv os li ox) (k : PSg D p s a base src h h' σ σ' ρ) (hI' : JInv D h') : SSt D p s a base src h0 σ0 ρ0 r h' σ' ρ ds is ss wh gs hv os li ox :=
  S.go k hI' (by have := k.2.2.2.2.2; omega) (by have := k.2.2.2.2.2; omega)
theorem SSt.pd (S : SSt D p s a base src h0 σ0 ρ0 r h σ ρ ds is ss wh gs hv os li ox) (k : POk D p s a base src h h' σ σ' ρ ρ' (40 * (lp σ' - lp σ)) (1200 * (lp σ' - lp σ))) (hI' : JInv D h') : SSt D p s a base src h0 σ0 ρ0 r h' σ' ρ' ds is ss wh gs hv os li ox :=
  S.go k hI' (by have := k.2.2.2.2.2; omega) (by have := k.2.2.2.2.2; omega)
def sl7 (src : Str) (ds : Bool) (is : List Itm) (ss : List Src) (wh : Option Nat) (gs : List Nat) (hv : Option Nat) (os : List (Nat × Bool)) (li : Option Int64) (σ : PS) : Except Nat (Stm × PS) :=
  pInt true src "offset" σ >>= fun x => .ok ((8, [], [], [], [], wh, (ds, is, ss, gs, hv, os, li, x.1.getD 0), psP x.2, psA x.2), x.2)
def sl6 (src : Str) (ds : Bool) (is : List Itm) (ss : List Src) (wh : Option Nat) (gs : List Nat) (hv : Option Nat) (os : List (Nat × Bool)) (σ : PS) : Except Nat (Stm × PS) :=
  pInt true src "limit" σ >>= fun x => sl7 src ds is ss wh gs hv os x.1 x.2
def sl5 (src : Str) (ds : Bool) (is : List Itm) (ss : List Src) (wh : Option Nat) (gs : List Nat) (hv : Option Nat) (σ : PS) : Except Nat (Stm × PS) :=
  pOrders true src σ >>= fun x => sl6 src ds is ss wh gs hv x.1 x.2
def sl4 (src : Str) (ds : Bool) (is : List Itm) (ss : List Src) (wh : Option Nat) (gs : List Nat) (σ : PS) : Except Nat (Stm × PS) :=
  pWhere true src "having" σ >>= fun x => sl5 src ds is ss wh gs x.1 x.2
def sl3 (src : Str) (ds : Bool) (is : List Itm) (ss : List Src) (wh : Option Nat) (σ : PS) : Except Nat (Stm × PS) :=
  pGroups true src σ >>= fun x => sl4 src ds is ss wh x.1 x.2
def sl2 (src : Str) (ds : Bool) (is : List Itm) (ss : List Src) (σ : PS) : Except Nat (Stm × PS) :=
  pWhere true src "where" σ >>= fun x => sl3 src ds is ss x.1 x.2
def sl1 (src : Str) (ds : Bool) (is : List Itm) (σ : PS) : Except Nat (Stm × PS) := pFrom true src σ >>= fun x => sl2 src ds is x.1 x.2
theorem pSelect_eq : pSelect true src σ = (pTake true src "distinct" σ >>= fun x => pItems true src 13 [] x.2 >>= fun i => sl1 src x.1 i.1 i.2) := rfl
theorem pInt_eq {w : String} : pInt true src w σ = (pTake true src w σ >>= fun b => if b.1 = true then itS src b.2 >>= fun v => .ok (some v.1, v.2) else .ok (none, b.2)) := by
  unfold pInt
  cases pTake true src w σ with
  | error e => rfl
  | ok b =>
    obtain ⟨b, τ⟩ := b
    cases b with
    | false => rfl
    | true =>
      show (if (tkK (psT τ) == 3) = true then _ else _) = (itS src τ >>= _)
      unfold itS
      by_cases e : (tkK (psT τ) == 3) = true
      · rw [if_pos e, if_pos e]
        cases pNext true src τ with
        | error e => rfl
        | ok x => rfl
      · rw [if_neg e, if_neg e]; rfl
theorem w_sel274 (hI0 : JInv D h0) (hs0 : s ≤ jsz h0) (S : SSt D p s a base src h0 σ0 ρ0 r h σ ρ ds is ss wh gs hv os li 0) (hd : 12 ≤ d) (Q : JO → JH → Prop) (hQ : ∀ h', JInv D h' → SeP D p s a base src h0 σ0 ρ0 r (sl7 src ds is ss wh gs hv os li σ) h' → Q (.inl (some (vR 57 r))) h') (hE : ∀ y h', JInv D h' → SeE p s src h0 σ0 (sl7 src ds is ss wh gs hv os li σ) y h' → Q (.inr y) h') : W_X17_select_274 D d Q p r h := by
  refine ⟨S.1.1.1.2.1, S.1.1.sg, ?_⟩
  rw [S.1.1.1.2.2.1]
  refine useI (w_takesWord S.1.1 "offset" (by decide +kernel) (by omega)) ?_ ?_
  · rintro v1 h1 hI1 _ ⟨b, σ1, e1, rfl, n1, q1, t1, f1⟩
    have S1 := S.sg n1 hI1
    cases b with
    | false =>
      exact ⟨fun _ => hQ h1 hI1 ⟨_, σ1, ρ, by unfold sl7; rw [pInt_eq, e1]; rfl, ⟨_, _, S1.2.2.2.1⟩, S1.1, S1.2.2.2.2⟩, fun z => absurd rfl z⟩
    | true =>
      refine ⟨fun z => absurd z (by decide), fun _ => useL (w_integer S1.1.1 (by omega)) ?_ ?_⟩
      · rintro v2 h2 hI2 _ ⟨σ2, e2, n2, l2, q2⟩
        have S2 := S1.sg n2 hI2
        have u2 := S2.2.2.2.1
        refine ⟨u2.1.1.2.1, ?_⟩
        rintro h3 rfl
        have k3 : Pd2 D p s a base src h0 (wfl h2 155 r v2) σ0 σ2 ρ0 ρ := POk.sfl S2.1 hI2 hI0 hs0 (by rw [u2.1.1.2.2]; decide) u2.1.1.1
        exact hQ _ (hI2.wfl (hI2.2.1 _ (by rw [u2.1.1.2.2]; decide)) (hI2.lt (by rw [u2.1.1.2.2]; decide))) ⟨_, σ2, ρ, by unfold sl7; rw [pInt_eq, e1, ok_bind]; show ((itS src σ1 >>= _) >>= _) = _; rw [e2]; rfl, ⟨_, _, u2.sOx⟩, k3, S2.2.2.2.2⟩
      · rintro y2 h2 hI2 _ ⟨er, e2, n2⟩
        exact hE y2 h2 hI2 ⟨er, by unfold sl7; rw [pInt_eq, e1, ok_bind]; show ((itS src σ1 >>= _) >>= _) = _; rw [e2]; rfl, S1.1.err n2 (Or.inl rfl)⟩
  · rintro y1 h1 hI1 _ ⟨er, e1, n1⟩
    exact hE y1 h1 hI1 ⟨er, by unfold sl7; rw [pInt_eq, e1]; rfl, S.1.err n1 (Or.inl rfl)⟩
theorem w_sel253 (hI0 : JInv D h0) (hs0 : s ≤ jsz h0) (S : SSt D p s a base src h0 σ0 ρ0 r h σ ρ ds is ss wh gs hv os none 0) (hd : 12 ≤ d) (Q : JO → JH → Prop) (hQ : ∀ h', JInv D h' → SeP D p s a base src h0 σ0 ρ0 r (sl6 src ds is ss wh gs hv os σ) h' → Q (.inl (some (vR 57 r))) h') (hE : ∀ y h', JInv D h' → SeE p s src h0 σ0 (sl6 src ds is ss wh gs hv os σ) y h' → Q (.inr y) h') : W_X17_select_253 D d Q p r h := by
  refine ⟨S.1.1.1.2.1, S.1.1.sg, ?_⟩
  rw [S.1.1.1.2.2.1]
  refine useI (w_takesWord S.1.1 "limit" (by decide +kernel) (by omega)) ?_ ?_
  · rintro v1 h1 hI1 _ ⟨b, σ1, e1, rfl, n1, q1, t1, f1⟩
    have S1 := S.sg n1 hI1
    cases b with
    | false =>
      have eq : sl6 src ds is ss wh gs hv os σ = sl7 src ds is ss wh gs hv os none σ1 := by unfold sl6; rw [pInt_eq, e1]; rfl
      rw [eq] at hQ hE
      exact ⟨fun _ => w_sel274 hI0 hs0 S1 hd Q hQ hE, fun z => absurd rfl z⟩
    | true =>
      refine ⟨fun z => absurd z (by decide), fun _ => useL (w_integer S1.1.1 (by omega)) ?_ ?_⟩
      · rintro v2 h2 hI2 _ ⟨σ2, e2, n2, l2, q2⟩
        have S2 := S1.sg n2 hI2
        have u2 := S2.2.2.2.1
        refine ⟨u2.1.1.2.1, ?_⟩
        rintro h3 rfl
        have k3 : Pd2 D p s a base src h0 (wfl h2 154 r v2) σ0 σ2 ρ0 ρ := POk.sfl S2.1 hI2 hI0 hs0 (by rw [u2.1.1.2.2]; decide) u2.1.1.1
        have eq : sl6 src ds is ss wh gs hv os σ = sl7 src ds is ss wh gs hv os (some v2) σ2 := by unfold sl6; rw [pInt_eq, e1, ok_bind]; show ((itS src σ1 >>= _) >>= _) = _; rw [e2]; rfl
        rw [eq] at hQ hE
        exact w_sel274 hI0 hs0 ⟨k3, hI2.wfl (hI2.2.1 _ (by rw [u2.1.1.2.2]; decide)) (hI2.lt (by rw [u2.1.1.2.2]; decide)), S2.2.2.1, u2.sLi, S2.2.2.2.2⟩ hd Q hQ hE
      · rintro y2 h2 hI2 _ ⟨er, e2, n2⟩
        exact hE y2 h2 hI2 ⟨er, by unfold sl6; rw [pInt_eq, e1, ok_bind]; show ((itS src σ1 >>= _) >>= _) = _; rw [e2]; rfl, S1.1.err n2 (Or.inl rfl)⟩
  · rintro y1 h1 hI1 _ ⟨er, e1, n1⟩
    exact hE y1 h1 hI1 ⟨er, by unfold sl6; rw [pInt_eq, e1]; rfl, S.1.err n1 (Or.inl rfl)⟩
/-! ORDER BY -/
theorem SelS.o1 {x : Nat} (u : SelS N h ρ L r c ds is ss wh gs hv os li ox) : SelS N (war h (jfr h 150 r) os.length x) ρ L r c ds is ss wh gs hv os li ox := by
  obtain ⟨k1, k2, k3, k4, k5, k6⟩ := u
  obtain ⟨a1, a2, a3, a4, a5, a6, a7⟩ := k1.arw (h' := war h (jfr h 150 r) os.length x) (x := (150, 155, 8)) (ρ := ρ) (L := L) (by decide) (fun q hq => same_war hq) rfl rfl
  refine ⟨a1, a3 (by decide) _ _ k2, a4 (by decide) _ k3, a5 (by decide) _ k4, ⟨fun i y hy => ?_, k5.2⟩, k6.of a7 (RX.rf _ _) (Nat.le_refl _)⟩
  have il : i < os.length := (List.getElem?_eq_some_iff.mp hy).1
  have z := k5.1 i y hy
  show jar (war h (jfr h 150 r) os.length x) (jfr h 150 r) i = _ ∧ jai h (jfr h 151 r) i = _
  simp only [jkd_wfi, jln_wfi, jfi_wfi, jfl_wfi, jfr_wfi, jai_wfi, jal_wfi, jar_wfi, jsz_wfi, jus_wfi, jkd_wfl, jln_wfl, jfi_wfl, jfl_wfl, jfr_wfl, jai_wfl, jal_wfl, jar_wfl, jsz_wfl, jus_wfl, jkd_wfr, jln_wfr, jfi_wfr, jfl_wfr, jfr_wfr, jai_wfr, jal_wfr, jar_wfr, jsz_wfr, jus_wfr, jkd_wai, jln_wai, jfi_wai, jfl_wai, jfr_wai, jai_wai, jal_wai, jar_wai, jsz_wai, jus_wai, jkd_wal, jln_wal, jfi_wal, jfl_wal, jfr_wal, jai_wal, jal_wal, jar_wal, jsz_wal, jus_wal, jkd_war, jln_war, jfi_war, jfl_war, jfr_war, jai_war, jal_war, jar_war, jsz_war, jus_war, jkd_nwo, jln_nwo, jfi_nwo, jfl_nwo, jfr_nwo, jai_nwo, jal_nwo, jar_nwo, jsz_nwo, jus_nwo, jkd_nwa, jln_nwa, jfi_nwa, jfl_nwa, jfr_nwa, jai_nwa, jal_nwa, jar_nwa, jsz_nwa, jus_nwa, jkd_cpa, jln_cpa, jfi_cpa, jfl_cpa, jfr_cpa, jai_cpa, jal_cpa, jar_cpa, jsz_cpa, jus_cpa, true_and]
  rw [if_neg (by omega)]
  exact z
theorem SelS.o2 {x : Int32} (u : SelS N h ρ L r c ds is ss wh gs hv os li ox) : SelS N (wai h (jfr h 151 r) os.length x) ρ L r c ds is ss wh gs hv os li ox := by
  obtain ⟨k1, k2, k3, k4, k5, k6⟩ := u
  obtain ⟨a1, a2, a3, a4, a5, a6, a7⟩ := k1.arw (h' := wai h (jfr h 151 r) os.length x) (x := (151, 156, 8)) (ρ := ρ) (L := L) (by decide) (fun q hq => same_wai hq) rfl rfl
  refine ⟨a1, a3 (by decide) _ _ k2, a4 (by decide) _ k3, a5 (by decide) _ k4, ⟨fun i y hy => ?_, k5.2⟩, k6.of a7 (RX.rf _ _) (Nat.le_refl _)⟩
  have il : i < os.length := (List.getElem?_eq_some_iff.mp hy).1
  have z := k5.1 i y hy
  show jar h (jfr h 150 r) i = _ ∧ jai (wai h (jfr h 151 r) os.length x) (jfr h 151 r) i = _
  simp only [jkd_wfi, jln_wfi, jfi_wfi, jfl_wfi, jfr_wfi, jai_wfi, jal_wfi, jar_wfi, jsz_wfi, jus_wfi, jkd_wfl, jln_wfl, jfi_wfl, jfl_wfl, jfr_wfl, jai_wfl, jal_wfl, jar_wfl, jsz_wfl, jus_wfl, jkd_wfr, jln_wfr, jfi_wfr, jfl_wfr, jfr_wfr, jai_wfr, jal_wfr, jar_wfr, jsz_wfr, jus_wfr, jkd_wai, jln_wai, jfi_wai, jfl_wai, jfr_wai, jai_wai, jal_wai, jar_wai, jsz_wai, jus_wai, jkd_wal, jln_wal, jfi_wal, jfl_wal, jfr_wal, jai_wal, jal_wal, jar_wal, jsz_wal, jus_wal, jkd_war, jln_war, jfi_war, jfl_war, jfr_war, jai_war, jal_war, jar_war, jsz_war, jus_war, jkd_nwo, jln_nwo, jfi_nwo, jfl_nwo, jfr_nwo, jai_nwo, jal_nwo, jar_nwo, jsz_nwo, jus_nwo, jkd_nwa, jln_nwa, jfi_nwa, jfl_nwa, jfr_nwa, jai_nwa, jal_nwa, jar_nwa, jsz_nwa, jus_nwa, jkd_cpa, jln_cpa, jfi_cpa, jfl_cpa, jfr_cpa, jai_cpa, jal_cpa, jar_cpa, jsz_cpa, jus_cpa, true_and]
  rw [if_neg (by omega)]
  exact z
theorem SelS.o3 {x : Nat} {dn : Bool} (u : SelS N h ρ L r c ds is ss wh gs hv os li ox) (hx : x < L) (hl : os.length < 8) (e1 : jar h (jfr h 150 r) os.length = ρ x) (e2 : jai h (jfr h 151 r) os.length = if dn = true then 1 else 0) : SelS N (wfi h 153 r (nI (os.length + 1))) ρ L r c ds is ss wh gs hv (os ++ [(x, dn)]) li ox := by
  obtain ⟨k1, k2, k3, k4, k5, k6⟩ := u
  obtain ⟨o1, _, o3, o4, o5, o6⟩ := k1.own (h' := wfi h 153 r (nI (os.length + 1))) (ρ := ρ) (L := L) (fun q hq => same_wfi hq) rfl (fun x hx => rfl)
  have i1 : ∀ F, F ≠ 153 → jfi (wfi h 153 r (nI (os.length + 1))) F r = jfi h F r := fun F hF => by rw [jfi_wfi, if_neg fun z => hF z.1]
  refine ⟨o1, o3 _ _ k2 (i1 _ (by decide)), o4 _ k3 (i1 _ (by decide)), o5 _ k4 (i1 _ (by decide)), ⟨fun i y hy => ?_, ⟨?_, by simp; omega⟩, fun y hy => ?_⟩, ⟨by rw [i1 _ (by decide)]; exact k6.1, k6.2⟩⟩
  · show jar h (jfr h 150 r) i = _ ∧ jai h (jfr h 151 r) i = _
    rcases get_snoc hy with ⟨e, rfl⟩ | ⟨e, g⟩
    · rw [e]; exact ⟨e1, e2⟩
    · exact k5.1 i y g
  · rw [jfi_wfi, if_pos ⟨rfl, rfl⟩]; simp
  · rcases List.mem_append.mp hy with z | z
    · exact k5.2.2 y z
    · rw [List.mem_singleton.mp z]; exact hx
end
