/-! the strict parser (a bad sign is refused at once) and the lax one (it is refused when it is looked at) answer alike -/
def bad (σ : PS) : Prop := tkK (psT σ) = 7
def Rz {α : Type} (x y : Except Nat (α × PS)) : Prop := match x with
  | .ok q => y = .ok q ∧ ¬ bad q.2
  | .error e => y = .error e ∨ ∃ q, y = .ok q ∧ bad q.2 ∧ e = tkF (psT q.2) + 1
def Bz {α : Type} (σ : PS) (y : Except Nat (α × PS)) : Prop := match y with
  | .ok q => psT q.2 = psT σ
  | .error e => e = tkF (psT σ) + 1
theorem bad_of {σ τ : PS} (e : psT τ = psT σ) (h : bad σ) : bad τ := by unfold bad at *; rw [e]; exact h
theorem nbad_of {σ τ : PS} (e : psT τ = psT σ) (h : ¬ bad σ) : ¬ bad τ := fun z => h (bad_of e.symm z)
theorem Rz.ok {α : Type} {q : α × PS} (h : ¬ bad q.2) : Rz (.ok q) (.ok q) := ⟨rfl, h⟩
theorem Rz.br {α : Type} {σ : PS} : Rz (α := α) (pBroken σ) (pBroken σ) := Or.inl rfl
theorem Bz.ok {α : Type} {σ : PS} {q : α × PS} (h : psT q.2 = psT σ) : Bz σ (.ok q) := h
theorem Bz.br {α : Type} {σ τ : PS} (h : psT τ = psT σ) : Bz (α := α) σ (pBroken τ) := by
  show tkF (psT τ) + 1 = _
  rw [h]
theorem Bz.of {α : Type} {σ τ : PS} {y : Except Nat (α × PS)} (h : psT τ = psT σ) (b : Bz τ y) : Bz σ y := by
  cases y with
  | ok q => exact (show psT q.2 = psT τ from b).trans h
  | error e => show e = _; rw [← h]; exact b
theorem Rz.bind {α β : Type} {x y : Except Nat (α × PS)} {g g' : α × PS → Except Nat (β × PS)} (h : Rz x y) (h1 : ∀ q, ¬ bad q.2 → Rz (g q) (g' q)) (h2 : ∀ q, bad q.2 → Bz q.2 (g' q)) : Rz (x >>= g) (y >>= g') := by
  cases x with
  | ok q =>
    obtain ⟨rfl, hb⟩ := h
    exact h1 q hb
  | error e =>
    rcases h with rfl | ⟨q, rfl, hb, he⟩
    · exact Or.inl rfl
    · have := h2 q hb
      show g' q = _ ∨ ∃ r, g' q = _ ∧ _
      revert this
      cases g' q with
      | ok r => exact fun t => Or.inr ⟨r, rfl, bad_of t hb, by rw [he, show psT r.2 = psT q.2 from t]⟩
      | error e' => exact fun t => Or.inl (by rw [he, show e' = _ from t])
theorem Bz.bind {α β : Type} {σ : PS} {y : Except Nat (α × PS)} {g : α × PS → Except Nat (β × PS)} (h : Bz σ y) (h1 : ∀ q, psT q.2 = psT σ → Bz σ (g q)) : Bz σ (y >>= g) := by
  cases y with
  | ok q => exact h1 q h
  | error e => exact h
theorem bad_is {σ : PS} (h : bad σ) (s : String) : pIs σ s = false := by
  unfold pIs
  unfold bad at h
  rw [h]; rfl
theorem bad_k {σ : PS} (h : bad σ) (n : Nat) (hn : n ≠ 7) : (tkK (psT σ) == n) = false := by
  unfold bad at h
  rw [h]
  exact beq_eq_false_iff_ne.mpr fun e => hn e.symm
/-- both at once, from one state -/
def Zz {α : Type} (σ : PS) (F : Bool → Except Nat (α × PS)) : Prop := (¬ bad σ → Rz (F true) (F false)) ∧ (bad σ → Bz σ (F false))
theorem Zz.bind {α β : Type} {σ : PS} {F : Bool → Except Nat (α × PS)} {G : Bool → α × PS → Except Nat (β × PS)} (h : Zz σ F) (h1 : ∀ q, Zz q.2 (fun sx => G sx q)) : Zz σ (fun sx => F sx >>= G sx) :=
  ⟨fun hb => (h.1 hb).bind (fun q hq => (h1 q).1 hq) fun q hq => (h1 q).2 hq, fun hb => (h.2 hb).bind fun q hq => ((h1 q).2 (bad_of hq hb)).of hq⟩
theorem Zz.ok {α : Type} {σ : PS} {q : α × PS} (h : psT q.2 = psT σ) : Zz σ (fun _ => .ok q) := ⟨fun hb => Rz.ok (nbad_of h hb), fun _ => h⟩
theorem Zz.br {α : Type} {σ τ : PS} (h : psT τ = psT σ) : Zz (α := α) σ (fun _ => pBroken τ) := ⟨fun _ => Rz.br, fun _ => Bz.br h⟩
theorem Zz.ite {α : Type} {σ : PS} {c : Bool} {F G : Bool → Except Nat (α × PS)} (h1 : c = true → Zz σ F) (h2 : c = false → Zz σ G) : Zz σ (fun sx => if c = true then F sx else G sx) := by
  cases c
  · exact h2 rfl
  · exact h1 rfl
theorem Zz.of {α : Type} {σ τ : PS} {F : Bool → Except Nat (α × PS)} (e : psT τ = psT σ) (h : Zz τ F) : Zz σ F := ⟨fun hb => h.1 (nbad_of e hb), fun hb => (h.2 (bad_of e hb)).of e⟩
theorem Zz.map {α β : Type} {σ : PS} {F : Bool → Except Nat (α × PS)} {f : α × PS → β × PS} (h : Zz σ F) (hf : ∀ q, psT (f q).2 = psT q.2) : Zz σ (fun sx => (F sx).map f) := by
  have e : ∀ x : Except Nat (α × PS), x.map f = (x >>= fun q => .ok (f q)) := fun x => by cases x <;> rfl
  have := h.bind (G := fun _ q => .ok (f q)) fun q => Zz.ok (hf q)
  simp only [e]
  exact this
theorem nb_is {σ : PS} {s : String} (h : pIs σ s = true) : ¬ bad σ := fun hb => by rw [bad_is hb] at h; cases h
theorem nb_k {σ : PS} {n : Nat} (hn : n ≠ 7) (h : (tkK (psT σ) == n) = true) : ¬ bad σ := fun hb => by rw [bad_k hb n hn] at h; cases h
section
variable {src : Str}
theorem Zz.next {σ : PS} (hb : ¬ bad σ) : Zz σ (fun sx => pNext sx src σ) := by
  refine ⟨fun _ => ?_, fun h => absurd h hb⟩
  unfold pNext
  dsimp only
  by_cases e : tkK (sTok src (tkT (psT σ))) = 7
  · rw [if_pos (by rw [e]; rfl), if_neg (by simp)]
    exact Or.inr ⟨_, rfl, e, rfl⟩
  · rw [if_neg (by simp [e]), if_neg (by simp)]
    exact ⟨rfl, e⟩
theorem z_take (s : String) (σ : PS) : Zz σ (fun sx => pTake sx src s σ) :=
  Zz.ite (fun e => (Zz.next (nb_is e)).map fun _ => rfl) fun _ => Zz.ok rfl
theorem z_need (s : String) (σ : PS) : Zz σ (fun sx => pNeed sx src s σ) :=
  Zz.ite (fun e => Zz.next (nb_is e)) fun _ => Zz.br rfl
theorem z_name (σ : PS) : Zz σ (fun sx => pName sx src σ) :=
  Zz.ite (fun e => (Zz.next (nb_k (by decide) e)).map fun _ => rfl) fun _ => Zz.br rfl
theorem z_enter (σ : PS) : Zz σ (fun _ => pEnter σ) := Zz.ite (fun _ => Zz.br rfl) fun _ => Zz.ok rfl
theorem z_oper {σ : PS} (hb : ¬ bad σ) : Zz σ (fun sx => pOper sx src σ) := Zz.ite (fun _ => Zz.br rfl) fun _ => Zz.of (τ := (psT σ, psO σ, psN σ + 1, σ.2.2.2)) rfl (Zz.next hb)
theorem z_list {rec : Bool → PS → Except Nat (Nat × PS)} (hr : ∀ σ, Zz σ fun sx => rec sx σ) (m : Nat) : ∀ n l σ, Zz σ fun sx => pList (rec sx) sx src m n l σ
  | 0, l, σ => Zz.br rfl
  | n + 1, l, σ => Zz.ite (fun _ => Zz.br rfl) fun _ => (hr σ).bind fun ⟨x, σ1⟩ => (z_take "," σ1).bind fun ⟨c, σ2⟩ => Zz.ite (fun _ => z_list hr m n _ σ2) fun _ => Zz.ok rfl
theorem z_whens {rec : Bool → PS → Except Nat (Nat × PS)} (hr : ∀ σ, Zz σ fun sx => rec sx σ) : ∀ n l σ, Zz σ fun sx => pWhens (rec sx) sx src n l σ
  | 0, l, σ => Zz.br rfl
  | n + 1, l, σ => Zz.ite (fun _ => Zz.ok rfl) fun e => Zz.ite (fun _ => Zz.br rfl) fun _ => (Zz.next (nb_is (s := "when") (by simpa using e))).bind fun ⟨_, σ1⟩ => (hr σ1).bind fun ⟨x, σ2⟩ => (z_need "then" σ2).bind fun ⟨_, σ3⟩ => (hr σ3).bind fun ⟨y, σ4⟩ => z_whens hr n _ σ4
theorem z_cases {rec : Bool → PS → Except Nat (Nat × PS)} (hr : ∀ σ, Zz σ fun sx => rec sx σ) (lo : Nat) (σ : PS) : Zz σ fun sx => pCases (rec sx) sx src lo σ :=
  Zz.ite (fun _ => Zz.br rfl) fun _ => (z_whens hr 20 [] σ).bind fun ⟨l, σ1⟩ => (z_take "else" σ1).bind fun ⟨e, σ2⟩ => Zz.ite (fun _ => (hr σ2).bind fun ⟨x, σ3⟩ => (z_need "end" σ3).bind fun ⟨_, σ4⟩ => Zz.ok rfl) fun _ => (z_need "end" σ2).bind fun ⟨_, σ4⟩ => Zz.ok rfl
theorem z_primary {rec : Bool → PS → Except Nat (Nat × PS)} (hr : ∀ σ, Zz σ fun sx => rec sx σ) (σ : PS) : Zz σ fun sx => pPrimary (rec sx) sx src σ := by
  refine Zz.ite (fun e => (Zz.next (nb_k (by decide) e)).map fun _ => rfl) fun _ => ?_
  refine Zz.ite (fun e => (Zz.next (nb_k (by decide) e)).map fun _ => rfl) fun _ => ?_
  refine Zz.ite (fun e => Zz.of (τ := (psT σ, psO σ, psN σ, max (psP σ) (tkN (psT σ)).toNatClampNeg, psA σ)) rfl (Zz.map (F := fun sx => pNext sx src (psT σ, psO σ, psN σ, max (psP σ) (tkN (psT σ)).toNatClampNeg, psA σ)) (f := fun q => pNode q.2 (1, (tkN (psT σ)).toNatClampNeg - 1, [], none, vNull, [], (psA σ).length)) (Zz.next (show ¬ bad σ from nb_k (by decide) e)) fun _ => rfl)) fun _ => ?_
  refine Zz.ite (fun e => (Zz.next (fun hb => by rw [bad_is hb, bad_is hb] at e; cases e)).map fun _ => rfl) fun _ => ?_
  refine Zz.ite (fun e => (Zz.next (nb_is e)).map fun _ => rfl) fun _ => ?_
  refine Zz.ite (fun e => (Zz.next (nb_is e)).bind fun ⟨_, σ1⟩ => z_cases hr _ σ1) fun _ => ?_
  refine Zz.ite (fun e => (Zz.next (nb_is e)).bind fun ⟨_, σ1⟩ => (hr σ1).bind fun ⟨x, σ2⟩ => (z_need ")" σ2).bind fun ⟨_, σ3⟩ => Zz.ok rfl) fun _ => ?_
  refine (z_name σ).bind fun ⟨s, σ1⟩ => ?_
  refine Zz.ite (fun e => (Zz.next (nb_is e)).bind fun ⟨_, σ2⟩ => (z_take "*" σ2).bind fun ⟨st, σ3⟩ => ?_) fun _ => Zz.ite (fun e => (Zz.next (nb_is e)).bind fun ⟨_, σ2⟩ => (z_name σ2).bind fun ⟨s2, σ3⟩ => Zz.ok rfl) fun _ => Zz.ok rfl
  exact Zz.ite (fun _ => (z_need ")" σ3).bind fun ⟨_, σ4⟩ => Zz.ok rfl) fun _ => (z_list hr 8 9 [] σ3).bind fun ⟨l, σ4⟩ => (z_need ")" σ4).bind fun ⟨_, σ5⟩ => Zz.ok rfl
theorem Zz.enter {α : Type} {σ : PS} {G : Bool → Unit × PS → Except Nat (α × PS)} (h : Zz σ fun sx => G sx ((), psT σ, psO σ + 1, σ.2.2)) : Zz σ fun sx => pEnter σ >>= G sx := by
  unfold pEnter
  by_cases e : (psO σ == 30) = true
  · simp only [e, if_true]
    exact Zz.br (α := α) rfl
  · simp only [e]
    exact h
theorem z_minus {rec : Bool → PS → Except Nat (Nat × PS)} (hr : ∀ σ, Zz σ fun sx => rec sx σ) : ∀ n σ, Zz σ fun sx => pMinus (rec sx) sx src n σ
  | 0, σ => Zz.br rfl
  | n + 1, σ => Zz.ite (fun _ => z_primary hr σ) fun e => Zz.enter (Zz.of (τ := (psT σ, psO σ + 1, σ.2.2)) rfl ((Zz.next (σ := (psT σ, psO σ + 1, σ.2.2)) (show ¬ bad σ from nb_is (s := "-") (by simpa using e))).bind fun ⟨_, σ2⟩ => (z_minus hr n σ2).bind fun ⟨x, σ3⟩ => Zz.ok rfl))
theorem z_prods {rec : Bool → PS → Except Nat (Nat × PS)} (hr : ∀ σ, Zz σ fun sx => rec sx σ) (lo : Nat) : ∀ n x σ, Zz σ fun sx => pProducts (rec sx) sx src lo n x σ
  | 0, x, σ => Zz.br rfl
  | n + 1, x, σ => Zz.ite (fun e => (z_oper (fun hb => by rw [bad_is hb, bad_is hb, bad_is hb] at e; cases e)).bind fun ⟨_, σ1⟩ => (z_minus hr 31 σ1).bind fun ⟨y, σ2⟩ => Zz.of (τ := (pNode σ2 (14, (if pIs σ "*" = true then 2 else if pIs σ "/" = true then 3 else 4), [], none, vNull, [x, y], lo)).2) rfl (z_prods hr lo n _ _)) fun _ => Zz.ok rfl
theorem z_term {rec : Bool → PS → Except Nat (Nat × PS)} (hr : ∀ σ, Zz σ fun sx => rec sx σ) (σ : PS) : Zz σ fun sx => pTerm (rec sx) sx src σ := (z_minus hr 31 σ).bind fun ⟨x, σ1⟩ => z_prods hr _ 302 x σ1
theorem z_sumsL {rec : Bool → PS → Except Nat (Nat × PS)} (hr : ∀ σ, Zz σ fun sx => rec sx σ) (lo : Nat) : ∀ n x σ, Zz σ fun sx => pSumsL (rec sx) sx src lo n x σ
  | 0, x, σ => Zz.br rfl
  | n + 1, x, σ => Zz.ite (fun e => (z_oper (fun hb => by rw [bad_is hb, bad_is hb, bad_is hb] at e; cases e)).bind fun ⟨_, σ1⟩ => (z_term hr σ1).bind fun ⟨y, σ2⟩ => Zz.of (τ := (pNode σ2 (14, (if pIs σ "+" = true then 0 else if pIs σ "-" = true then 1 else 5), [], none, vNull, [x, y], lo)).2) rfl (z_sumsL hr lo n _ _)) fun _ => Zz.ok rfl
theorem z_sums {rec : Bool → PS → Except Nat (Nat × PS)} (hr : ∀ σ, Zz σ fun sx => rec sx σ) (σ : PS) : Zz σ fun sx => pSums (rec sx) sx src σ := (z_term hr σ).bind fun ⟨x, σ1⟩ => z_sumsL hr _ 302 x σ1
theorem z_among {rec : Bool → PS → Except Nat (Nat × PS)} (hr : ∀ σ, Zz σ fun sx => rec sx σ) (lo x : Nat) (due : Bool) (σ : PS) : Zz σ fun sx => pAmong (rec sx) sx src lo x due σ := by
  refine Zz.ite (fun e => (Zz.next (nb_is e)).bind fun ⟨_, σ1⟩ => (z_need "(" σ1).bind fun ⟨_, σ2⟩ => (z_list hr 8 9 [] σ2).bind fun ⟨l, σ3⟩ => (z_need ")" σ3).bind fun ⟨_, σ4⟩ => Zz.ok rfl) fun _ => ?_
  refine Zz.ite (fun e => (Zz.next (nb_is e)).bind fun ⟨_, σ1⟩ => (z_sums hr σ1).bind fun ⟨y, σ2⟩ => Zz.ok rfl) fun _ => ?_
  refine Zz.ite (fun e => (Zz.next (nb_is e)).bind fun ⟨_, σ1⟩ => (z_sums hr σ1).bind fun ⟨a, σ2⟩ => (z_need "and" σ2).bind fun ⟨_, σ3⟩ => (z_sums hr σ3).bind fun ⟨b, σ4⟩ => Zz.ok rfl) fun _ => ?_
  exact Zz.ite (fun _ => Zz.br rfl) fun _ => Zz.ok rfl
theorem z_compared {rec : Bool → PS → Except Nat (Nat × PS)} (hr : ∀ σ, Zz σ fun sx => rec sx σ) (σ : PS) : Zz σ fun sx => pCompared (rec sx) sx src σ := by
  refine (z_sums hr σ).bind fun ⟨x, σ1⟩ => ?_
  dsimp only
  rcases e : pCmp σ1 with _ | k
  · dsimp only
    refine Zz.ite (fun e => (Zz.next (nb_is e)).bind fun ⟨_, σ2⟩ => (z_take "not" σ2).bind fun ⟨nt, σ3⟩ => (z_need "null" σ3).bind fun ⟨_, σ4⟩ => Zz.ok rfl) fun _ => ?_
    exact Zz.ite (fun e => (Zz.next (nb_is e)).bind fun ⟨_, σ2⟩ => (z_among hr _ x true σ2).bind fun ⟨y, σ3⟩ => Zz.ok rfl) fun _ => z_among hr _ x false σ1
  · dsimp only
    refine (Zz.next fun hb => ?_).bind fun ⟨_, σ2⟩ => (z_sums hr σ2).bind fun ⟨y, σ3⟩ => Zz.ok rfl
    unfold pCmp at e
    rw [bad_k hb 6 (by decide)] at e
    cases e
theorem z_nots {rec : Bool → PS → Except Nat (Nat × PS)} (hr : ∀ σ, Zz σ fun sx => rec sx σ) : ∀ n σ, Zz σ fun sx => pNots (rec sx) sx src n σ
  | 0, σ => Zz.br rfl
  | n + 1, σ => Zz.ite (fun _ => z_compared hr σ) fun e => Zz.enter (Zz.of (τ := (psT σ, psO σ + 1, σ.2.2)) rfl ((Zz.next (σ := (psT σ, psO σ + 1, σ.2.2)) (show ¬ bad σ from nb_is (s := "not") (by simpa using e))).bind fun ⟨_, σ2⟩ => (z_nots hr n σ2).bind fun ⟨x, σ3⟩ => Zz.ok rfl))
theorem z_andsL {rec : Bool → PS → Except Nat (Nat × PS)} (hr : ∀ σ, Zz σ fun sx => rec sx σ) (lo : Nat) : ∀ n x σ, Zz σ fun sx => pAndsL (rec sx) sx src lo n x σ
  | 0, x, σ => Zz.br rfl
  | n + 1, x, σ => Zz.ite (fun e => (z_oper (nb_is e)).bind fun ⟨_, σ1⟩ => (z_nots hr 31 σ1).bind fun ⟨y, σ2⟩ => Zz.of (τ := (pNode σ2 (10, 0, [], none, vNull, [x, y], lo)).2) rfl (z_andsL hr lo n _ _)) fun _ => Zz.ok rfl
theorem z_ands {rec : Bool → PS → Except Nat (Nat × PS)} (hr : ∀ σ, Zz σ fun sx => rec sx σ) (σ : PS) : Zz σ fun sx => pAnds (rec sx) sx src σ := (z_nots hr 31 σ).bind fun ⟨x, σ1⟩ => z_andsL hr _ 302 x σ1
theorem z_orsL {rec : Bool → PS → Except Nat (Nat × PS)} (hr : ∀ σ, Zz σ fun sx => rec sx σ) (lo : Nat) : ∀ n x σ, Zz σ fun sx => pOrsL (rec sx) sx src lo n x σ
  | 0, x, σ => Zz.br rfl
  | n + 1, x, σ => Zz.ite (fun e => (z_oper (nb_is e)).bind fun ⟨_, σ1⟩ => (z_ands hr σ1).bind fun ⟨y, σ2⟩ => Zz.of (τ := (pNode σ2 (11, 0, [], none, vNull, [x, y], lo)).2) rfl (z_orsL hr lo n _ _)) fun _ => Zz.ok rfl
theorem z_expr : ∀ n σ, Zz σ fun sx => pExpr sx src n σ
  | 0, σ => Zz.br rfl
  | n + 1, σ => Zz.enter (Zz.of (τ := (psT σ, psO σ + 1, σ.2.2)) rfl ((z_ands (rec := fun sx => pExpr sx src n) (z_expr n) _).bind fun ⟨x, σ2⟩ => (z_orsL (rec := fun sx => pExpr sx src n) (z_expr n) _ 302 x σ2).bind fun ⟨y, σ3⟩ => Zz.ok rfl))
/-! statements -/
theorem z_mods : ∀ n nd un σ, Zz σ fun sx => pMods sx src n nd un σ
  | 0, _, _, σ => Zz.br rfl
  | n + 1, nd, un, σ => Zz.ite (fun e => (Zz.next (nb_is e)).bind fun ⟨_, σ1⟩ => (z_need "null" σ1).bind fun ⟨_, σ2⟩ => z_mods n true un σ2) fun _ => Zz.ite (fun e => (Zz.next (nb_is e)).bind fun ⟨_, σ1⟩ => z_mods n nd true σ1) fun _ => Zz.ite (fun e => (Zz.next (nb_is e)).bind fun ⟨_, σ1⟩ => (z_need "key" σ1).bind fun ⟨_, σ2⟩ => z_mods n true true σ2) fun _ => Zz.ok rfl
theorem z_column (σ : PS) : Zz σ fun sx => pColumn sx src σ := by
  refine (z_name σ).bind fun ⟨s, σ1⟩ => ?_
  refine Zz.ite (fun _ => Zz.br rfl) fun e => (Zz.next fun hb => ?_).bind fun ⟨_, σ2⟩ => (z_mods _ _ _ σ2).bind fun ⟨m, σ3⟩ => Zz.ok rfl
  rw [bad_is hb, bad_is hb, bad_is hb] at e
  cases e
theorem z_cols : ∀ n l σ, Zz σ fun sx => pCols sx src n l σ
  | 0, _, σ => Zz.br rfl
  | n + 1, l, σ => Zz.ite (fun _ => Zz.br rfl) fun _ => (z_column σ).bind fun ⟨c, σ1⟩ => (z_take "," σ1).bind fun ⟨b, σ2⟩ => Zz.ite (fun _ => z_cols n _ σ2) fun _ => Zz.ok rfl
theorem z_names : ∀ n l σ, Zz σ fun sx => pNames sx src n l σ
  | 0, _, σ => Zz.br rfl
  | n + 1, l, σ => Zz.ite (fun _ => Zz.br rfl) fun _ => (z_name σ).bind fun ⟨c, σ1⟩ => (z_take "," σ1).bind fun ⟨b, σ2⟩ => Zz.ite (fun _ => z_names n _ σ2) fun _ => Zz.ok rfl
theorem z_rows : ∀ n l σ, Zz σ fun sx => pRows sx src n l σ
  | 0, _, σ => Zz.br rfl
  | n + 1, l, σ => Zz.ite (fun _ => Zz.br rfl) fun _ => (z_need "(" σ).bind fun ⟨_, σ1⟩ => (z_list (rec := fun sx => pExpr sx src 31) (z_expr 31) 10 11 [] σ1).bind fun ⟨r, σ2⟩ => (z_need ")" σ2).bind fun ⟨_, σ3⟩ => (z_take "," σ3).bind fun ⟨b, σ4⟩ => Zz.ite (fun _ => z_rows n _ σ4) fun _ => Zz.ok rfl
theorem z_sets : ∀ n l v σ, Zz σ fun sx => pSets sx src n l v σ
  | 0, _, _, σ => Zz.br rfl
  | n + 1, l, v, σ => Zz.ite (fun _ => Zz.br rfl) fun _ => (z_name σ).bind fun ⟨c, σ1⟩ => (z_need "=" σ1).bind fun ⟨_, σ2⟩ => (z_expr 31 σ2).bind fun ⟨x, σ3⟩ => (z_take "," σ3).bind fun ⟨b, σ4⟩ => Zz.ite (fun _ => z_sets n _ _ σ4) fun _ => Zz.ok rfl
theorem z_where (s : String) (σ : PS) : Zz σ fun sx => pWhere sx src s σ := (z_take s σ).bind fun ⟨b, σ1⟩ => Zz.ite (fun _ => (z_expr 31 σ1).bind fun ⟨x, σ2⟩ => Zz.ok rfl) fun _ => Zz.ok rfl
end
