/-! the parser of the component: SELECT, HAVING, GROUP BY, WHERE -/
section
variable {D : JD} {p s a base : Nat} {src : Str} {h h' h'' h0 h2 : JH} {σ σ' σ'' σ0 σ2 : PS} {ρ ρ' ρ'' ρ0 : Nat → Nat} {n m n' m' n1 m1 : Int} {d c r q w arr N L L' l : Nat} {ds : Bool} {is : List Itm} {ss : List Src} {gs : List Nat} {wh hv : Option Nat} {os : List (Nat × Bool)} {li : Option Int64} {ox : Int64}
theorem where_lt {w : String} {y : Option Nat} (k : PsR D p s a base src h σ ρ) (ho : psO σ = 0) (e : pWhere true src w σ = .ok (y, σ')) : ∀ x, y = some x → x < (psA σ').length := fun x hx =>
  ((s_where (sx := true) (src := src) w σ ⟨k.2.2.2.2.2.1, ho, k.2.2.2.2.2.2.1, k.2.2.2.2.2.2.2.1⟩ _ e).2.2 x hx).1
theorem w_sel214 (hI0 : JInv D h0) (hs0 : s ≤ jsz h0) (S : SSt D p s a base src h0 σ0 ρ0 r h σ ρ ds is ss wh gs none [] none 0) (hd : 351 ≤ d) (Q : JO → JH → Prop) (hQ : ∀ h', JInv D h' → SeP D p s a base src h0 σ0 ρ0 r (sl4 src ds is ss wh gs σ) h' → Q (.inl (some (vR 57 r))) h') (hE : ∀ y h', JInv D h' → SeE p s src h0 σ0 (sl4 src ds is ss wh gs σ) y h' → Q (.inr y) h') : W_X17_select_214 D d Q p r h := by
  refine ⟨S.1.1.1.2.1, S.1.1.sg, ?_⟩
  rw [S.1.1.1.2.2.1]
  refine useI (w_takesWord S.1.1 "having" (by decide +kernel) (by omega)) ?_ ?_
  · rintro v1 h1 hI1 _ ⟨b, σ1, e1, rfl, n1, q1, t1, f1⟩
    have S1 := S.sg n1 hI1
    cases b with
    | false =>
      have eq : sl4 src ds is ss wh gs σ = sl5 src ds is ss wh gs none σ1 := by unfold sl4 pWhere; rw [e1]; rfl
      rw [eq] at hQ hE
      exact ⟨fun _ => w_sel235 hI0 hs0 S1 hd Q hQ hE, fun z => absurd rfl z⟩
    | true =>
      have eq : sl4 src ds is ss wh gs σ = (pExpr true src 31 σ1 >>= fun x => sl5 src ds is ss wh gs (some x.1) x.2) := by
        unfold sl4 pWhere
        rw [e1, ok_bind]
        show ((pExpr true src 31 σ1 >>= _) >>= _) = _
        cases pExpr true src 31 σ1 <;> rfl
      rw [eq] at hQ hE
      have o1 := S1.2.2.1
      refine ⟨fun z => absurd z (by decide), fun _ => useR (w_expr 31 σ1 ρ h1 d S1.1.1 (by omega) (by omega)) ?_ ?_⟩
      · rintro v2 h2 hI2 _ ⟨x, σ2, ρ2, e2, hv2, n2, l2⟩
        have S2 := S1.pd n2 hI2
        have u2 := S2.2.2.2.1
        have xl := expr_lt e2 S1.1.1.2.2.2.2.2.1
        have nk := S2.1.1.nk xl
        refine ⟨u2.1.1.2.1, ?_⟩
        rintro h3 rfl
        rw [hv2]
        rw [e2, ok_bind] at hQ hE
        have rb : jbs D < r := hI2.2.1 _ (by rw [u2.1.1.2.2]; decide)
        have rl : r ≤ jsz h2 := hI2.lt (by rw [u2.1.1.2.2]; decide)
        exact w_sel235 hI0 hs0 ⟨POk.sfr S2.1 hI2 hI0 hs0 (by rw [u2.1.1.2.2]; decide) u2.1.1.1, hI2.wfr rb rl (Or.inr (sbt_node3 _ nk.2 nk.1).2.2.2), S2.2.2.1, u2.sHv (hv := some x) ⟨rfl, fun y hy => by cases hy; exact xl⟩, S2.2.2.2.2⟩ hd Q hQ hE
      · rintro y2 h2 hI2 _ ⟨er, e2, n2⟩
        exact hE y2 h2 hI2 ⟨er, by rw [e2]; rfl, S1.1.err n2 (Or.inr (Or.inl rfl))⟩
  · rintro y1 h1 hI1 _ ⟨er, e1, n1⟩
    exact hE y1 h1 hI1 ⟨er, by unfold sl4 pWhere; rw [e1]; rfl, S.1.err n1 (Or.inl rfl)⟩
/-! GROUP BY -/
def gpL (src : Str) (ds : Bool) (is : List Itm) (ss : List Src) (wh : Option Nat) (f : Nat) (gs : List Nat) (σ : PS) : Except Nat (Stm × PS) := pList (pExpr true src 31) true src 8 f gs σ >>= fun x => sl4 src ds is ss wh x.1 x.2
theorem gpL_eq (f : Nat) (hl : gs.length ≠ 8) : gpL src ds is ss wh (f + 1) gs σ = (pExpr true src 31 σ >>= fun x => pTake true src "," x.2 >>= fun b => if b.1 = true then gpL src ds is ss wh f (gs ++ [x.1]) b.2 else sl4 src ds is ss wh (gs ++ [x.1]) b.2) := by
  unfold gpL
  conv => lhs; unfold pList
  rw [if_neg (by simpa using hl)]
  cases pExpr true src 31 σ with
  | error e => rfl
  | ok x =>
    show (pTake true src "," x.2 >>= _) >>= _ = (pTake true src "," x.2 >>= _)
    cases pTake true src "," x.2 with
    | error e => rfl
    | ok b =>
      obtain ⟨b, τ⟩ := b
      cases b <;> rfl
theorem w_grpL (hI0 : JInv D h0) (hs0 : s ≤ jsz h0) : ∀ f gs σ ρ h d (Q : JO → JH → Prop), SSt D p s a base src h0 σ0 ρ0 r h σ ρ ds is ss wh gs none [] none 0 → 9 ≤ f + gs.length → 351 ≤ d →
    (∀ h', JInv D h' → SeP D p s a base src h0 σ0 ρ0 r (gpL src ds is ss wh f gs σ) h' → Q (.inl (some (vR 57 r))) h') → (∀ y h', JInv D h' → SeE p s src h0 σ0 (gpL src ds is ss wh f gs σ) y h' → Q (.inr y) h') → L_X17_select_165 D d Q f p r h
  | 0, gs, σ, ρ, h, d, Q, S, hf, _, _, _ => by
    have := S.2.2.2.1.2.2.2.1.2.1.2
    exfalso; omega
  | f + 1, gs, σ, ρ, h, d, Q, S, hf, hd, hQ, hE => by
    have u := S.2.2.2.1
    have hl := u.2.2.2.1.2.1.2
    have uc := u.2.2.2.1.2.1.1
    have ho := S.2.2.1
    refine ⟨u.1.1.2.1, fun z => ⟨S.1.1.1.2.1, ?_⟩, fun z => ⟨S.1.1.1.2.1, useR0 (w_broken S.1.1 (by omega)) ?_⟩⟩
    · have hl' : gs.length < 8 := by
        rcases Nat.lt_or_ge gs.length 8 with y | y
        · exact y
        · exact absurd (by rw [uc, show gs.length = 8 by omega]; rfl) z
      have eq0 := gpL_eq (src := src) (σ := σ) (gs := gs) (ds := ds) (is := is) (ss := ss) (wh := wh) f (by omega)
      refine useR (w_expr 31 σ ρ h d S.1.1 (by omega) (by omega)) ?_ ?_
      · rintro v1 h1 hI1 _ ⟨x, σ1, ρ1, e1, hv1, n1, l1⟩
        have S1 := S.pd n1 hI1
        have u1 := S1.2.2.2.1
        have xl := expr_lt e1 S.1.1.2.2.2.2.2.1
        have sr : same h h1 r := n1.obj S.1.1 S.2.1 (by rw [u.1.1.2.2]; decide)
        have A1 := u1.1.ary (x := (147, 154, 8)) (by decide)
        dsimp only at A1
        have eA : jfr h 147 r = jfr h1 147 r := (sr.fr 147).symm
        have nk := S1.1.1.nk xl
        rw [eA, uc, ixn_nI (by omega), hv1]
        refine ⟨A1.2.2.2.1, by rw [A1.2.2.1]; exact jin_nI (by omega) (by omega), ?_⟩
        rintro h2 q2 h3 q3
        have q3 : h3 = wfi (war h1 (jfr h1 147 r) gs.length (ρ1 x)) 148 r (nI (gs.length + 1)) := by
          rw [q3, q2]
          show wfi _ 148 r (jfi h1 148 r + 1) = _
          rw [u1.2.2.2.1.2.1.1, nI_1]
        have k2 : Pd2 D p s a base src h0 h2 σ0 σ1 ρ0 ρ1 := by rw [q2]; exact POk.sar S1.1 hI1 hI0 hs0 A1.1 (u1.1.2 (147, 154, 8) (by decide)).1
        have hI2 : JInv D h2 := by rw [q2]; exact hI1.war (hI1.2.1 _ (by rw [A1.2.1]; decide)) (hI1.lt (by rw [A1.2.1]; decide)) (Or.inr (by rw [A1.2.1]; exact (sbt_node2 _ nk.2 nk.1).2.1))
        have d2 : jkd h2 r = 33 := by rw [q2]; exact u1.1.1.2.2
        have S3 : SSt D p s a base src h0 σ0 ρ0 r h3 σ1 ρ1 ds is ss wh (gs ++ [x]) none [] none 0 := by
          refine ⟨?_, ?_, S1.2.2.1, by rw [q3]; exact u1.sG xl hl', S1.2.2.2.2⟩
          · rw [q3, ← q2]; exact POk.sfi k2 hI2 hI0 hs0 (by rw [d2]; decide) u1.1.1.1
          · rw [q3, ← q2]; exact hI2.wfi (hI2.2.1 _ (by rw [d2]; decide)) (hI2.lt (by rw [d2]; decide))
        clear q3
        refine ⟨S3.1.1.sg, ?_⟩
        rw [S3.1.1.1.2.2.1]
        refine useI (w_takes S3.1.1 "," (by decide +kernel) (by omega)) ?_ ?_
        · rintro v4 h4 hI4 _ ⟨b, σ4, e4, rfl, n4, q4, t4, f4⟩
          have S4 := S3.sg n4 hI4
          rw [eq0, e1, ok_bind, e4, ok_bind] at hQ hE
          cases b with
          | true => exact ⟨fun _ => w_grpL hI0 hs0 f _ σ4 ρ1 h4 d Q S4 (by simp; omega) hd hQ hE, fun z => absurd z (by decide)⟩
          | false => exact ⟨fun z => absurd rfl z, fun _ => w_sel214 hI0 hs0 S4 hd Q hQ hE⟩
        · rintro y4 h4 hI4 _ ⟨er, e4, n4⟩
          exact hE y4 h4 hI4 ⟨er, by rw [eq0, e1, ok_bind, e4]; rfl, S3.1.err n4 (Or.inl rfl)⟩
      · rintro y1 h1 hI1 _ ⟨er, e1, n1⟩
        exact hE y1 h1 hI1 ⟨er, by rw [eq0, e1]; rfl, S.1.err n1 (Or.inr (Or.inl rfl))⟩
    · rintro y1 h1 hI1 _ n1
      refine ⟨n1.1.1, hE y1 h1 hI1 ⟨tkF (psT σ) + 1, ?_, S.1.err n1 (Or.inl rfl)⟩⟩
      have e8 : gs.length = 8 := (nI_eq (b := 8) (by omega) (by omega)).mp (by rw [← uc]; exact z)
      unfold gpL pList
      rw [if_pos (by rw [e8]; rfl)]; rfl
theorem sl3_eq : sl3 src ds is ss wh σ = (pTake true src "group" σ >>= fun b => if b.1 = true then pNeed true src "by" b.2 >>= fun o => gpL src ds is ss wh 9 [] o.2 else sl4 src ds is ss wh [] b.2) := by
  unfold sl3 pGroups
  cases pTake true src "group" σ with
  | error e => rfl
  | ok b =>
    obtain ⟨b, τ⟩ := b
    cases b with
    | false => rfl
    | true =>
      show ((pNeed true src "by" τ >>= _) >>= _) = (pNeed true src "by" τ >>= _)
      cases pNeed true src "by" τ <;> rfl
theorem w_sel135 (hI0 : JInv D h0) (hs0 : s ≤ jsz h0) (S : SSt D p s a base src h0 σ0 ρ0 r h σ ρ ds is ss none [] none [] none 0) (hd : 351 ≤ d) (Q : JO → JH → Prop) (hQ : ∀ h', JInv D h' → SeP D p s a base src h0 σ0 ρ0 r (sl2 src ds is ss σ) h' → Q (.inl (some (vR 57 r))) h') (hE : ∀ y h', JInv D h' → SeE p s src h0 σ0 (sl2 src ds is ss σ) y h' → Q (.inr y) h') : W_X17_select_135 D d Q p r h := by
  refine ⟨S.1.1.1.2.1, useR (w_where S.1.1 S.2.2.1 hd) ?_ ?_⟩
  · rintro v1 h1 hI1 _ ⟨y, σ1, ρ1, e1, o1, n1, l1⟩
    have S1 := S.pd n1 hI1
    have u1 := S1.2.2.2.1
    have yl := where_lt S.1.1 S.2.2.1 e1
    refine ⟨u1.1.1.2.1, ?_⟩
    rintro h2 q2
    have rb : jbs D < r := hI1.2.1 _ (by rw [u1.1.1.2.2]; decide)
    have rl : r ≤ jsz h1 := hI1.lt (by rw [u1.1.1.2.2]; decide)
    have S2 : SSt D p s a base src h0 σ0 ρ0 r h2 σ1 ρ1 ds is ss y [] none [] none 0 := by
      rw [q2]
      refine ⟨POk.sfr S1.1 hI1 hI0 hs0 (by rw [u1.1.1.2.2]; decide) u1.1.1.1, hI1.wfr rb rl ?_, S1.2.2.1, u1.sWh ⟨o1, yl⟩, S1.2.2.2.2⟩
      cases y with
      | none => exact Or.inl o1
      | some x =>
        have nk := S1.1.1.nk (yl x rfl)
        have o1 : v1 = ρ1 x := o1
        rw [o1]; exact Or.inr (sbt_node3 _ nk.2 nk.1).2.2.1
    clear q2
    have eq : sl2 src ds is ss σ = sl3 src ds is ss y σ1 := by unfold sl2; rw [e1]; rfl
    rw [eq, sl3_eq] at hQ hE
    refine ⟨S2.1.1.sg, ?_⟩
    rw [S2.1.1.1.2.2.1]
    refine useI (w_takesWord S2.1.1 "group" (by decide +kernel) (by omega)) ?_ ?_
    · rintro v3 h3 hI3 _ ⟨b, σ3, e3, rfl, n3, q3, t3, f3⟩
      have S3 := S2.sg n3 hI3
      rw [e3, ok_bind] at hQ hE
      cases b with
      | false => exact ⟨fun _ => w_sel214 hI0 hs0 S3 hd Q hQ hE, fun z => absurd rfl z⟩
      | true =>
        refine ⟨fun z => absurd z (by decide), fun _ => ⟨S3.1.1.sg, ?_⟩⟩
        rw [S3.1.1.1.2.2.1]
        refine useV (w_needWord S3.1.1 "by" (by decide +kernel) (by omega)) ?_ ?_
        · rintro h4 hI4 _ ⟨σ4, e4, n4, l4, q4⟩
          have S4 := S3.sg n4 hI4
          have eq4 : (if (true, σ3).1 = true then pNeed true src "by" (true, σ3).2 >>= fun o => gpL src ds is ss y 9 [] o.2 else sl4 src ds is ss y [] (true, σ3).2) = gpL src ds is ss y 9 [] σ4 := by rw [if_pos rfl, e4]; rfl
          rw [eq4] at hQ hE
          exact ⟨9, w_grpL hI0 hs0 9 [] σ4 ρ1 h4 d Q S4 (by decide) hd hQ hE⟩
        · rintro y4 h4 hI4 _ ⟨er, e4, n4⟩
          exact hE y4 h4 hI4 ⟨er, by rw [if_pos rfl, e4]; rfl, S3.1.err n4 (Or.inl rfl)⟩
    · rintro y3 h3 hI3 _ ⟨er, e3, n3⟩
      exact hE y3 h3 hI3 ⟨er, by rw [e3]; rfl, S2.1.err n3 (Or.inl rfl)⟩
  · rintro y1 h1 hI1 _ ⟨er, e1, n1⟩
    exact hE y1 h1 hI1 ⟨er, by unfold sl2; rw [e1]; rfl, S.1.err n1 (Or.inr (Or.inl rfl))⟩
end
