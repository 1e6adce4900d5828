/-! the strict parser and the lax one: selections, texts -/
section
variable {src : Str}
theorem is_k2 {σ : PS} (h : tkK (psT σ) = 2) (s : String) : pIs σ s = false := by unfold pIs; rw [h]; rfl
theorem name_expr {n e : Nat} {σ : PS} (hk : tkK (psT σ) = 2) (ho : psO σ ≠ 30) (hp : ∀ rec : PS → Except Nat (Nat × PS), pPrimary rec true src (psT σ, psO σ + 1, σ.2.2) = .error e) : pExpr true src (n + 1) σ = .error e := by
  have hi : ∀ s, pIs (psT σ, psO σ + 1, σ.2.2) s = false := fun s => is_k2 (σ := (psT σ, psO σ + 1, σ.2.2)) hk s
  have h1 : pMinus (pExpr true src n) true src 31 (psT σ, psO σ + 1, σ.2.2) = .error e := by
    unfold pMinus
    rw [hi, if_pos (show (!false) = true from rfl), hp]
  have h2 : pTerm (pExpr true src n) true src (psT σ, psO σ + 1, σ.2.2) = .error e := by
    unfold pTerm
    rw [h1]; rfl
  have h3 : pSums (pExpr true src n) true src (psT σ, psO σ + 1, σ.2.2) = .error e := by
    unfold pSums
    rw [h2]; rfl
  have h4 : pCompared (pExpr true src n) true src (psT σ, psO σ + 1, σ.2.2) = .error e := by
    unfold pCompared
    rw [h3]; rfl
  have h5 : pNots (pExpr true src n) true src 31 (psT σ, psO σ + 1, σ.2.2) = .error e := by
    unfold pNots
    rw [hi, if_pos (show (!false) = true from rfl), h4]
  have h6 : pAnds (pExpr true src n) true src (psT σ, psO σ + 1, σ.2.2) = .error e := by
    unfold pAnds
    rw [h5]; rfl
  unfold pExpr pEnter
  rw [if_neg (by simpa using ho)]
  show (pAnds (pExpr true src n) true src (psT σ, psO σ + 1, σ.2.2) >>= _) = _
  rw [h6]; rfl
theorem next_bad {σ : PS} (h : tkK (sTok src (tkT (psT σ))) = 7) : pNext true src σ = .error (tkF (sTok src (tkT (psT σ))) + 1) := by
  unfold pNext
  dsimp only
  rw [if_pos (by rw [h]; rfl)]
theorem next_ok {sx : Bool} {σ : PS} (h : tkK (sTok src (tkT (psT σ))) ≠ 7) : pNext sx src σ = .ok ((), sTok src (tkT (psT σ)), σ.2) := by
  unfold pNext
  dsimp only
  rw [if_neg (by simp [h])]
theorem next_lax {σ : PS} : pNext false src σ = .ok ((), sTok src (tkT (psT σ)), σ.2) := by
  unfold pNext
  dsimp only
  rw [if_neg (by simp)]
theorem pr_name {σ : PS} (hk : tkK (psT σ) = 2) (h : tkK (sTok src (tkT (psT σ))) = 7) (rec : PS → Except Nat (Nat × PS)) : pPrimary rec true src σ = .error (tkF (sTok src (tkT (psT σ))) + 1) := by
  unfold pPrimary
  simp only [is_k2 hk, hk, Nat.reduceBEq, Bool.false_eq_true, if_false, Bool.or_self]
  unfold pName
  rw [hk, if_pos (show ((2 : Nat) == 2) = true from rfl), next_bad h]; rfl
theorem pr_name2 {σ : PS} (hk : tkK (psT σ) = 2) (h : tkK (sTok src (tkT (psT σ))) ≠ 7) (hd : pIs (sTok src (tkT (psT σ)), σ.2) "." = true) (h2 : tkK (sTok src (tkT (sTok src (tkT (psT σ))))) = 7) (rec : PS → Except Nat (Nat × PS)) : pPrimary rec true src σ = .error (tkF (sTok src (tkT (sTok src (tkT (psT σ))))) + 1) := by
  have hp : pIs (sTok src (tkT (psT σ)), σ.2) "(" = false := by
    unfold pIs at hd ⊢
    simp only [Bool.and_eq_true, beq_iff_eq] at hd
    rw [hd.2]
    simp only [Bool.and_eq_false_iff]
    exact Or.inr (by decide)
  unfold pPrimary
  simp only [is_k2 hk, hk, Nat.reduceBEq, Bool.false_eq_true, if_false, Bool.or_self]
  unfold pName
  rw [hk, if_pos (show ((2 : Nat) == 2) = true from rfl), next_ok h]
  show (if pIs (sTok src (tkT (psT σ)), σ.2) "(" = true then _ else _) = _
  rw [hp, if_neg (by simp), if_pos hd, next_bad (σ := (sTok src (tkT (psT σ)), σ.2)) h2]; rfl
theorem Zz.eq {α : Type} {σ : PS} {F G : Bool → Except Nat (α × PS)} (h : Zz σ G) (e : ∀ sx, F sx = G sx) : Zz σ F := by rw [show F = G from funext e]; exact h
/-- the part of an item that is no star -/
def pItemX (sx : Bool) (src : Str) (σ : PS) : Except Nat (Itm × PS) := do
  let (x, σ) ← pExpr sx src 31 σ
  let (a, σ) ← pTake sx src "as" σ
  if a then
    let (nm, σ) ← pName sx src σ
    .ok ((false, some nm, x), σ)
  else .ok ((false, none, x), σ)
def pItemS (sx : Bool) (src : Str) (w : Str) (σ : PS) : Except Nat (Itm × PS) := do
  let (_, σ) ← pNext sx src σ
  let (_, σ) ← pNext sx src σ
  let (_, σ) ← pNext sx src σ
  .ok ((true, some w, 0), σ)
def pItemR (sx : Bool) (src : Str) (σ : PS) : Except Nat (Itm × PS) := do
  let (st, σ) ← pStarred sx src σ
  if st then pItemS sx src (tkW (psT σ)) σ else pItemX sx src σ
theorem pItem_eq (sx : Bool) (σ : PS) : pItem sx src σ = (do
  let (s, σ) ← pTake sx src "*" σ
  if s then .ok ((true, none, 0), σ) else pItemR sx src σ) := rfl
theorem z_itemX (σ : PS) : Zz σ fun sx => pItemX sx src σ := (z_expr 31 σ).bind fun ⟨x, σ1⟩ => (z_take "as" σ1).bind fun ⟨a, σ2⟩ => Zz.ite (fun _ => (z_name σ2).bind fun ⟨nm, σ3⟩ => Zz.ok rfl) fun _ => Zz.ok rfl
theorem z_itemR (σ : PS) (ho : psO σ ≠ 30) : Zz σ fun sx => pItemR sx src σ := by
  by_cases hk : tkK (psT σ) = 2
  · have hbad : ¬ bad σ := fun hb => by unfold bad at hb; omega
    have zx := z_itemX (src := src) σ
    have errX : ∀ e, (∀ rec : PS → Except Nat (Nat × PS), pPrimary rec true src (psT σ, psO σ + 1, σ.2.2) = .error e) → pItemX true src σ = .error e := by
      intro e he
      unfold pItemX
      rw [name_expr hk ho he]; rfl
    by_cases h1 : tkK (sTok src (tkT (psT σ))) = 7
    · -- the sign behind the name is bad
      refine ⟨fun _ => ?_, fun hb => absurd hb hbad⟩
      have e1 : pItemR true src σ = .error (tkF (sTok src (tkT (psT σ))) + 1) := by
        unfold pItemR pStarred
        rw [hk, if_pos (show ((2 : Nat) == 2) = true from rfl), next_bad h1]; rfl
      have e2 : pItemR false src σ = pItemX false src σ := by
        unfold pItemR pStarred
        rw [hk, if_pos (show ((2 : Nat) == 2) = true from rfl), next_lax]
        show ((if pIs (sTok src (tkT (psT σ)), σ.2) "." = true then _ else _) >>= _) = _
        rw [bad_is (σ := (sTok src (tkT (psT σ)), σ.2)) h1, if_neg (by simp)]; rfl
      have : Rz (pItemX true src σ) (pItemX false src σ) := zx.1 hbad
      rw [errX _ fun rec => pr_name (σ := (psT σ, psO σ + 1, σ.2.2)) hk h1 rec] at this
      show Rz (pItemR true src σ) (pItemR false src σ)
      rw [e1, e2]
      exact this
    · by_cases hd : pIs (sTok src (tkT (psT σ)), σ.2) "." = true
      · by_cases h2 : tkK (sTok src (tkT (sTok src (tkT (psT σ))))) = 7
        · refine ⟨fun _ => ?_, fun hb => absurd hb hbad⟩
          have e1 : pItemR true src σ = .error (tkF (sTok src (tkT (sTok src (tkT (psT σ))))) + 1) := by
            unfold pItemR pStarred
            rw [hk, if_pos (show ((2 : Nat) == 2) = true from rfl), next_ok h1]
            show ((if pIs (sTok src (tkT (psT σ)), σ.2) "." = true then _ else _) >>= _) = _
            rw [if_pos hd, next_bad (σ := (sTok src (tkT (psT σ)), σ.2)) h2]; rfl
          have e2 : pItemR false src σ = pItemX false src σ := by
            unfold pItemR pStarred
            rw [hk, if_pos (show ((2 : Nat) == 2) = true from rfl), next_lax]
            show ((if pIs (sTok src (tkT (psT σ)), σ.2) "." = true then _ else _) >>= _) = _
            rw [if_pos hd, next_lax]
            show (Except.ok (pIs (sTok src (tkT (sTok src (tkT (psT σ)))), σ.2) "*", σ) >>= _) = _
            rw [bad_is (σ := (sTok src (tkT (sTok src (tkT (psT σ)))), σ.2)) h2]; rfl
          have : Rz (pItemX true src σ) (pItemX false src σ) := zx.1 hbad
          rw [errX _ fun rec => pr_name2 (σ := (psT σ, psO σ + 1, σ.2.2)) hk h1 (by exact hd) h2 rec] at this
          show Rz (pItemR true src σ) (pItemR false src σ)
          rw [e1, e2]
          exact this
        · -- NAME . and a good sign
          have e : ∀ sx, pItemR sx src σ = if pIs (sTok src (tkT (sTok src (tkT (psT σ)))), σ.2) "*" = true then (pNext sx src (sTok src (tkT (sTok src (tkT (psT σ)))), σ.2) >>= fun q => .ok ((true, some (tkW (psT σ)), 0), q.2)) else pItemX sx src σ := by
            intro sx
            unfold pItemR pStarred
            rw [hk, if_pos (show ((2 : Nat) == 2) = true from rfl), next_ok h1]
            show ((if pIs (sTok src (tkT (psT σ)), σ.2) "." = true then _ else _) >>= _) = _
            rw [if_pos hd, next_ok (σ := (sTok src (tkT (psT σ)), σ.2)) h2]
            show (if pIs (sTok src (tkT (sTok src (tkT (psT σ)))), σ.2) "*" = true then pItemS sx src (tkW (psT σ)) σ else pItemX sx src σ) = _
            by_cases hs : pIs (sTok src (tkT (sTok src (tkT (psT σ)))), σ.2) "*" = true
            · rw [if_pos hs, if_pos hs]
              unfold pItemS
              rw [next_ok h1]
              show (pNext sx src (sTok src (tkT (psT σ)), σ.2) >>= _) = _
              rw [next_ok (σ := (sTok src (tkT (psT σ)), σ.2)) h2]; rfl
            · rw [if_neg hs, if_neg hs]
          refine Zz.eq (Zz.ite (fun hs => ?_) fun _ => zx) e
          have hn : ¬ bad (sTok src (tkT (sTok src (tkT (psT σ)))), σ.2) := nb_is hs
          have := (Zz.next (src := src) hn).bind (G := fun _ q => .ok ((((true, some (tkW (psT σ)), 0) : Itm)), q.2)) fun q => Zz.ok rfl
          exact ⟨fun _ => this.1 hn, fun hb => absurd hb hbad⟩
      · have e : ∀ sx, pItemR sx src σ = pItemX sx src σ := by
          intro sx
          unfold pItemR pStarred
          rw [hk, if_pos (show ((2 : Nat) == 2) = true from rfl), next_ok h1]
          show ((if pIs (sTok src (tkT (psT σ)), σ.2) "." = true then _ else _) >>= _) = _
          rw [if_neg hd]; rfl
        exact Zz.eq zx e
  · have e : ∀ sx, pItemR sx src σ = pItemX sx src σ := by
      intro sx
      unfold pItemR pStarred
      rw [if_neg (by simpa using hk)]; rfl
    exact Zz.eq (z_itemX σ) e
theorem Zz.bindP {α β : Type} {σ : PS} {F : Bool → Except Nat (α × PS)} {G : Bool → α × PS → Except Nat (β × PS)} (P : α × PS → Prop) (h : Zz σ F) (hi : ∀ sx q, F sx = .ok q → P q) (h1 : ∀ q, P q → Zz q.2 (fun sx => G sx q)) : Zz σ (fun sx => F sx >>= G sx) := by
  constructor
  · intro hb
    have hr := h.1 hb
    show Rz (F true >>= G true) (F false >>= G false)
    have i1 := hi true
    have i2 := hi false
    revert hr i1 i2
    cases F true with
    | ok q =>
      rintro ⟨e, hq⟩ i1 i2
      rw [e]
      exact (h1 q (i1 q rfl)).1 hq
    | error e =>
      rintro (hr | ⟨q, hr, hb, he⟩) i1 i2
      · rw [hr]; exact Or.inl rfl
      · rw [hr]
        have : Bz q.2 (G false q) := (h1 q (i2 q hr)).2 hb
        show G false q = _ ∨ ∃ r, G false q = _ ∧ _
        revert this
        cases G false q with
        | ok r => exact fun t => Or.inr ⟨r, rfl, bad_of t hb, by rw [he, show psT r.2 = psT q.2 from t]⟩
        | error e' => exact fun t => Or.inl (by rw [he, show e' = _ from t])
  · intro hb
    have hr := h.2 hb
    show Bz σ (F false >>= G false)
    have i2 := hi false
    revert hr i2
    cases F false with
    | ok q => exact fun hr i2 => ((h1 q (i2 q rfl)).2 (bad_of hr hb)).of hr
    | error e => exact fun hr _ => hr
theorem z_item (σ : PS) (ho : psO σ ≠ 30) : Zz σ fun sx => pItem sx src σ :=
  Zz.bindP (fun q => psO q.2 = psO σ) (z_take "*" σ) (fun sx q hq => by
    have := n_take hq
    unfold psO
    rw [this]) fun q hq => Zz.ite (fun _ => Zz.ok rfl) fun _ => z_itemR q.2 (by rw [hq]; exact ho)
theorem z_items : ∀ n l σ, G0 src σ → Zz σ fun sx => pItems sx src n l σ
  | 0, _, σ, _ => Zz.br rfl
  | n + 1, l, σ, g => Zz.ite (fun _ => Zz.br rfl) fun _ => Zz.bindP (fun q => G0 src q.2) (z_item σ (by rw [g.2.1]; decide)) (fun sx q hq => (s_item σ g q hq).1) fun q g1 => Zz.bindP (fun q => G0 src q.2) (z_take "," q.2) (fun sx r hr => ((i_take "," q.2).sz g1 r hr).1) fun r g2 => Zz.ite (fun _ => z_items n _ r.2 g2) fun _ => Zz.ok rfl
theorem z_source (k : Nat) (j lf : Bool) (σ : PS) : Zz σ fun sx => pSource sx src k j lf σ :=
  Zz.ite (fun _ => Zz.br rfl) fun _ => (z_name σ).bind fun ⟨t, σ1⟩ => (z_take "as" σ1).bind fun ⟨a, σ2⟩ => (Zz.ite (c := a || tkK (psT σ2) == 2) (fun _ => z_name σ2) fun _ => Zz.ok rfl).bind fun ⟨nm, σ3⟩ => Zz.ite (fun _ => (z_need "on" σ3).bind fun ⟨_, σ4⟩ => (z_expr 31 σ4).bind fun ⟨x, σ5⟩ => Zz.ok rfl) fun _ => Zz.ok rfl
theorem z_sources : ∀ n l σ, Zz σ fun sx => pSources sx src n l σ
  | 0, _, σ => Zz.br rfl
  | n + 1, l, σ => Zz.ite (fun e => (Zz.next (nb_is e)).bind fun ⟨_, σ1⟩ => (z_source l.length false false σ1).bind fun ⟨s, σ2⟩ => z_sources n _ σ2) fun _ => Zz.ite (fun _ => (z_take "left" σ).bind fun ⟨lf, σ1⟩ => (z_need "join" σ1).bind fun ⟨_, σ2⟩ => (z_source l.length true lf σ2).bind fun ⟨s, σ3⟩ => z_sources n _ σ3) fun _ => Zz.ok rfl
theorem z_from (σ : PS) : Zz σ fun sx => pFrom sx src σ := (z_take "from" σ).bind fun ⟨b, σ1⟩ => Zz.ite (fun _ => (z_source 0 false false σ1).bind fun ⟨s, σ2⟩ => z_sources 5 [s] σ2) fun _ => Zz.ok rfl
theorem z_groups (σ : PS) : Zz σ fun sx => pGroups sx src σ := (z_take "group" σ).bind fun ⟨b, σ1⟩ => Zz.ite (fun _ => (z_need "by" σ1).bind fun ⟨_, σ2⟩ => z_list (rec := fun sx => pExpr sx src 31) (z_expr 31) 8 9 [] σ2) fun _ => Zz.ok rfl
theorem z_ordL : ∀ n l σ, Zz σ fun sx => pOrdL sx src n l σ
  | 0, _, σ => Zz.br rfl
  | n + 1, l, σ => Zz.ite (fun _ => Zz.br rfl) fun _ => (z_expr 31 σ).bind fun ⟨x, σ1⟩ => (Zz.ite (σ := σ1) (c := pIs σ1 "desc" || pIs σ1 "asc") (fun e => Zz.next (σ := σ1) fun hb => by rw [bad_is hb, bad_is hb] at e; cases e) fun _ => Zz.ok rfl).bind fun ⟨_, σ2⟩ => (z_take "," σ2).bind fun ⟨b, σ3⟩ => Zz.ite (fun _ => z_ordL n _ σ3) fun _ => Zz.ok rfl
theorem z_orders (σ : PS) : Zz σ fun sx => pOrders sx src σ := (z_take "order" σ).bind fun ⟨b, σ1⟩ => Zz.ite (fun _ => (z_need "by" σ1).bind fun ⟨_, σ2⟩ => z_ordL 9 [] σ2) fun _ => Zz.ok rfl
theorem z_int (s : String) (σ : PS) : Zz σ fun sx => pInt sx src s σ := (z_take s σ).bind fun ⟨b, σ1⟩ => Zz.ite (fun _ => Zz.ite (fun e => (Zz.next (nb_k (by decide) e)).bind fun ⟨_, σ2⟩ => Zz.ok rfl) fun _ => Zz.br rfl) fun _ => Zz.ok rfl
theorem z_select (σ : PS) (g : G0 src σ) : Zz σ fun sx => pSelect sx src σ :=
  Zz.bindP (fun q => G0 src q.2) (z_take "distinct" σ) (fun sx q hq => ((i_take "distinct" σ).sz g q hq).1) fun ⟨ds, σ1⟩ g1 => (z_items 13 [] σ1 g1).bind fun ⟨is, σ2⟩ => (z_from σ2).bind fun ⟨fs, σ3⟩ => (z_where "where" σ3).bind fun ⟨wh, σ4⟩ => (z_groups σ4).bind fun ⟨gs, σ5⟩ => (z_where "having" σ5).bind fun ⟨hv, σ6⟩ => (z_orders σ6).bind fun ⟨os, σ7⟩ => (z_int "limit" σ7).bind fun ⟨li, σ8⟩ => (z_int "offset" σ8).bind fun ⟨of, σ9⟩ => Zz.ok rfl
theorem z_stm0 (σ : PS) (g : G0 src σ) : Zz σ fun sx => pStm0 sx src σ := by
  refine Zz.ite (fun e => (Zz.next (nb_is e)).bind fun ⟨_, σ1⟩ => (z_need "table" σ1).bind fun ⟨_, σ2⟩ => (z_name σ2).bind fun ⟨t, σ3⟩ => (z_need "(" σ3).bind fun ⟨_, σ4⟩ => (z_cols 11 [] σ4).bind fun ⟨cs, σ5⟩ => (z_need ")" σ5).bind fun ⟨_, σ6⟩ => Zz.ok rfl) fun _ => ?_
  refine Zz.ite (fun e => (Zz.next (nb_is e)).bind fun ⟨_, σ1⟩ => (z_need "table" σ1).bind fun ⟨_, σ2⟩ => (z_name σ2).bind fun ⟨t, σ3⟩ => Zz.ok rfl) fun _ => ?_
  refine Zz.ite (fun e => (Zz.next (nb_is e)).bind fun ⟨_, σ1⟩ => (z_need "into" σ1).bind fun ⟨_, σ2⟩ => (z_name σ2).bind fun ⟨t, σ3⟩ => (z_take "(" σ3).bind fun ⟨b, σ4⟩ => (Zz.ite (c := b) (fun _ => (z_names 11 [] σ4).bind fun ⟨l, σ5⟩ => (z_need ")" σ5).bind (G := fun _ q => .ok (l, q.2)) fun _ => Zz.ok rfl) fun _ => Zz.ok rfl).bind fun ⟨ns, σ7⟩ => (z_need "values" σ7).bind fun ⟨_, σ8⟩ => (z_rows 21 [] σ8).bind fun ⟨rs, σ9⟩ => Zz.ok rfl) fun _ => ?_
  refine Zz.ite (fun e => (Zz.next (nb_is e)).bind fun ⟨_, σ1⟩ => (z_name σ1).bind fun ⟨t, σ2⟩ => (z_need "set" σ2).bind fun ⟨_, σ3⟩ => (z_sets 11 [] [] σ3).bind fun ⟨q, σ4⟩ => (z_where "where" σ4).bind fun ⟨wh, σ5⟩ => Zz.ok rfl) fun _ => ?_
  refine Zz.ite (fun e => (Zz.next (nb_is e)).bind fun ⟨_, σ1⟩ => (z_need "from" σ1).bind fun ⟨_, σ2⟩ => (z_name σ2).bind fun ⟨t, σ3⟩ => (z_where "where" σ3).bind fun ⟨wh, σ4⟩ => Zz.ok rfl) fun _ => ?_
  refine Zz.ite (fun e => (Zz.next (σ := σ) fun hb => by rw [bad_is hb, bad_is hb, bad_is hb] at e; cases e).bind fun ⟨_, σ1⟩ => Zz.ok rfl) fun _ => ?_
  exact Zz.bindP (fun q => G0 src q.2) (z_need "select" σ) (fun sx q hq => ((i_need "select" σ).sz g q hq).1) fun q g1 => z_select q.2 g1
theorem z_stm (σ : PS) (h : G1 src σ) : Zz σ fun sx => pStm sx src σ := by
  have g0 : G0 src (psT σ, 0, 0, psP σ, []) := ⟨⟨h.1, fun j hj => (by cases hj), Nat.zero_le _⟩, rfl, Nat.zero_le _, h.2⟩
  refine Zz.of (τ := (psT σ, 0, 0, psP σ, [])) rfl ((z_stm0 _ g0).bind fun ⟨s, σ1⟩ => Zz.ite (fun _ => Zz.ok rfl) fun _ => Zz.br rfl)
theorem z_parts : ∀ n σ, Zz σ fun sx => pParts sx src n σ
  | 0, σ => Zz.br rfl
  | n + 1, σ => Zz.ite (fun e => (Zz.next (nb_is e)).bind fun ⟨_, σ1⟩ => z_parts n σ1) fun _ => Zz.ok rfl
/-- a whole text: both answer the same -/
def Fz {α : Type} (σ : PS) (F : Bool → Except Nat α) : Prop := (¬ bad σ → F true = F false) ∧ (bad σ → F false = .error (tkF (psT σ) + 1))
theorem Fz.bindP {α β : Type} {σ : PS} {F : Bool → Except Nat (α × PS)} {G : Bool → α × PS → Except Nat β} (P : α × PS → Prop) (h : Zz σ F) (hi : ∀ sx q, F sx = .ok q → P q) (h1 : ∀ q, P q → Fz q.2 (fun sx => G sx q)) : Fz σ (fun sx => F sx >>= G sx) := by
  constructor
  · intro hb
    have hr := h.1 hb
    show (F true >>= G true) = (F false >>= G false)
    have i1 := hi true
    have i2 := hi false
    revert hr i1 i2
    cases F true with
    | ok q =>
      rintro ⟨e, hq⟩ i1 i2
      rw [e]
      exact (h1 q (i1 q rfl)).1 hq
    | error e =>
      rintro (hr | ⟨q, hr, hb, he⟩) i1 i2
      · rw [hr]; rfl
      · rw [hr]
        have : G false q = _ := (h1 q (i2 q hr)).2 hb
        show _ = G false q
        rw [this, ← he]; rfl
  · intro hb
    have hr := h.2 hb
    show (F false >>= G false) = _
    have i2 := hi false
    revert hr i2
    cases F false with
    | ok q =>
      intro hr i2
      have : G false q = _ := (h1 q (i2 q rfl)).2 (bad_of hr hb)
      rw [show psT q.2 = psT σ from hr] at this
      exact this
    | error e => exact fun hr _ => by rw [show e = _ from hr]; rfl
theorem Fz.ite {α : Type} {σ : PS} {c : Bool} {F G : Bool → Except Nat α} (h1 : c = true → Fz σ F) (h2 : c = false → Fz σ G) : Fz σ (fun sx => if c = true then F sx else G sx) := by
  cases c
  · exact h2 rfl
  · exact h1 rfl
theorem Fz.ok {α : Type} {σ : PS} {a : α} (h : ¬ bad σ) : Fz σ (fun _ => .ok a) := ⟨fun _ => rfl, fun hb => absurd hb h⟩
theorem Fz.br {α : Type} {σ : PS} : Fz (α := α) σ (fun _ => .error (tkF (psT σ) + 1)) := ⟨fun _ => rfl, fun _ => rfl⟩
theorem f_stms : ∀ n l σ, G1 src σ → Fz σ fun sx => pStms sx src n l σ
  | 0, _, σ, _ => Fz.br
  | n + 1, l, σ, g => Fz.ite (fun e => Fz.ok (nb_k (by decide) e)) fun _ => Fz.ite (fun _ => Fz.br) fun _ => Fz.bindP (fun q => G1 src q.2) (z_stm σ g) (fun sx q hq => (s_stm g hq).1) fun q g1 => Fz.bindP (fun q => G1 src q.2) (z_parts _ q.2) (fun sx r hr => (s_parts _ q.2 g1 r hr).1) fun r g2 => f_stms n _ r.2 g2
theorem g1_first {sx : Bool} {q : Unit × PS} (h : pNext sx src ps0 = .ok q) : G1 src q.2 := by
  have e2 := n_next h
  have hw : WT src q.2 := by
    unfold pNext at h
    dsimp only at h
    split at h
    · cases h
    · cases h; exact ⟨_, rfl⟩
  exact ⟨hw, by rw [e2]; exact Nat.zero_le _⟩
theorem pText_lax : pText false src = pText true src := by
  have h0 : ¬ bad ps0 := by unfold bad; decide
  have : Fz ps0 fun sx => pText sx src := Fz.bindP (fun q => G1 src q.2) (Zz.next h0) (fun sx q hq => g1_first hq) fun q g => Fz.bindP (fun q => G1 src q.2) (z_parts _ q.2) (fun sx r hr => (s_parts _ q.2 g r hr).1) fun r g2 => f_stms 21 [] r.2 g2
  exact (this.1 h0).symm
theorem pOne_lax : pOne false src = pOne true src := by
  have h0 : ¬ bad ps0 := by unfold bad; decide
  have : Fz ps0 fun sx => pOne sx src := Fz.bindP (fun q => G1 src q.2) (Zz.next h0) (fun sx q hq => g1_first hq) fun q g => Fz.bindP (fun q => G1 src q.2) (z_parts _ q.2) (fun sx r hr => (s_parts _ q.2 g r hr).1) fun r g2 => Fz.ite (fun e => Fz.ok (nb_k (by decide) e)) fun _ => Fz.bindP (fun q => G1 src q.2) (z_stm r.2 g2) (fun sx s hs => (s_stm g2 hs).1) fun s g3 => Fz.bindP (fun q => G1 src q.2) (z_parts _ s.2) (fun sx t ht => (s_parts _ s.2 g3 t ht).1) fun t g4 => Fz.ite (fun e => Fz.ok (nb_k (by decide) e)) fun _ => Fz.br
  exact (this.1 h0).symm
end
