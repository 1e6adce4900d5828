/-! trees of a statement stand one behind the other -/
section
variable {sx : Bool} {src : Str}
/-- roots one behind the other -/
def OrA (A : List Nod) (l : List Nat) : Prop := Til A 0 l A.length
theorem OrA.le {a b : PS} {l : List Nat} (h : OrA (psA a) l) (g : Le a b) : OrA (psA b) l := by
  obtain ⟨B, e⟩ := g.2.2.2.2.2
  have h1 : Til (psA a ++ B) 0 l (psA a).length := Til.ext h (Nat.le_refl _)
  unfold OrA
  rw [e]
  exact h1.hi (by rw [List.length_append]; omega)
theorem OrA.nil {A : List Nod} : OrA A [] := Nat.zero_le _
theorem OrA.ord {A : List Nod} {l : List Nat} (h : OrA A l) (j k : Nat) (x z : Nat) (hjk : j < k) (hx : l[j]? = some x) (hz : l[k]? = some z) : x < ndL (nat_ A z) := Til.ord h j k x z hjk hx hz
theorem o_expr (σ : PS) : Sz src σ (pExpr sx src 31 σ) fun x τ => ∀ l, OrA (psA σ) l → OrA (psA τ) (l ++ [x]) := by
  intro g q hq
  obtain ⟨a, b, c⟩ := x_expr 31 σ g.1 q hq
  refine ⟨g.le a b, b, fun l hl => ?_⟩
  obtain ⟨B, e⟩ := b.2.2.2.2.2
  have h1 : Til (psA q.2) 0 l (psA σ).length := by
    rw [e]
    exact Til.ext hl (Nat.le_refl _)
  have h2 := h1.snoc (p := q.1) (Nat.le_of_eq c.2.2.1.symm) (by rw [c.2.2.1]; exact c.2.1)
  rw [c.1] at h2
  exact h2
theorem o_list (m : Nat) (l0 : List Nat) : ∀ n l σ, OrA (psA σ) (l0 ++ l) → Sz src σ (pList (pExpr sx src 31) sx src m n l σ) fun l' τ => OrA (psA τ) (l0 ++ l')
  | 0, l, σ, _ => fun _ q hq => by cases hq
  | n + 1, l, σ, hl => by
    intro g q hq
    unfold pList at hq
    split at hq
    · cases hq
    · obtain ⟨⟨x, σ1⟩, e1, hq⟩ := bnd hq
      obtain ⟨g1, l1, r1⟩ := o_expr σ g _ e1
      obtain ⟨⟨c, σ2⟩, e2, hq⟩ := bnd hq
      obtain ⟨g2, l2, _⟩ := (i_take "," σ1).sz g1 _ e2
      have rs : OrA (psA σ2) (l0 ++ (l ++ [x])) := by
        rw [← List.append_assoc]
        exact (r1 _ hl).le l2
      cases c with
      | false =>
        cases hq
        exact ⟨g2, l1.tr l2, rs⟩
      | true =>
        obtain ⟨g3, l3, p3⟩ := o_list m l0 n (l ++ [x]) σ2 rs g2 q hq
        exact ⟨g3, (l1.tr l2).tr l3, p3⟩
theorem o_rows : ∀ n l σ, OrA (psA σ) l.flatten → Sz src σ (pRows sx src n l σ) fun l' τ => OrA (psA τ) l'.flatten
  | 0, l, σ, _ => fun _ q hq => by cases hq
  | n + 1, l, σ, hl => by
    intro g q hq
    unfold pRows at hq
    split at hq
    · cases hq
    · obtain ⟨⟨_, σ1⟩, e1, hq⟩ := bnd hq
      obtain ⟨g1, l1, _⟩ := (i_need "(" σ).sz g _ e1
      obtain ⟨⟨r, σ2⟩, e2, hq⟩ := bnd hq
      obtain ⟨g2, l2, r2⟩ := o_list 10 l.flatten 11 [] σ1 (by rw [List.append_nil]; exact hl.le l1) g1 _ e2
      obtain ⟨⟨_, σ3⟩, e3, hq⟩ := bnd hq
      obtain ⟨g3, l3, _⟩ := (i_need ")" σ2).sz g2 _ e3
      obtain ⟨⟨b, σ4⟩, e4, hq⟩ := bnd hq
      obtain ⟨g4, l4, _⟩ := (i_take "," σ3).sz g3 _ e4
      have hr : OrA (psA σ4) (l ++ [r]).flatten := by
        rw [List.flatten_append, List.flatten_singleton]
        exact r2.le (l3.tr l4)
      cases b with
      | false =>
        cases hq
        exact ⟨g4, ((l1.tr l2).tr l3).tr l4, hr⟩
      | true =>
        obtain ⟨g5, l5, p5⟩ := o_rows n (l ++ [r]) σ4 hr g4 q hq
        exact ⟨g5, (((l1.tr l2).tr l3).tr l4).tr l5, p5⟩
theorem o_sets : ∀ n l v σ, OrA (psA σ) v → Sz src σ (pSets sx src n l v σ) fun r τ => OrA (psA τ) r.2
  | 0, l, v, σ, _ => fun _ q hq => by cases hq
  | n + 1, l, v, σ, hv => by
    intro g q hq
    unfold pSets at hq
    split at hq
    · cases hq
    · obtain ⟨⟨c, σ1⟩, e1, hq⟩ := bnd hq
      obtain ⟨g1, l1, _⟩ := (i_name σ).sz g _ e1
      obtain ⟨⟨_, σ2⟩, e2, hq⟩ := bnd hq
      obtain ⟨g2, l2, _⟩ := (i_need "=" σ1).sz g1 _ e2
      obtain ⟨⟨x, σ3⟩, e3, hq⟩ := bnd hq
      obtain ⟨g3, l3, r3⟩ := o_expr σ2 g2 _ e3
      obtain ⟨⟨b, σ4⟩, e4, hq⟩ := bnd hq
      obtain ⟨g4, l4, _⟩ := (i_take "," σ3).sz g3 _ e4
      have hr := (r3 _ (hv.le (l1.tr l2))).le l4
      cases b with
      | false =>
        cases hq
        exact ⟨g4, ((l1.tr l2).tr l3).tr l4, hr⟩
      | true =>
        obtain ⟨g5, l5, p5⟩ := o_sets n (l ++ [c]) (v ++ [x]) σ4 hr g4 q hq
        exact ⟨g5, (((l1.tr l2).tr l3).tr l4).tr l5, p5⟩
theorem o_where (s : String) (σ : PS) : Sz src σ (pWhere sx src s σ) fun o τ => ∀ l, OrA (psA σ) l → OrA (psA τ) (l ++ o.toList) := by
  intro g q hq
  unfold pWhere at hq
  obtain ⟨⟨b, σ1⟩, e1, hq⟩ := bnd hq
  obtain ⟨g1, l1, _⟩ := (i_take s σ).sz g _ e1
  cases b with
  | false =>
    cases hq
    exact ⟨g1, l1, fun l hl => by
      show OrA (psA σ1) (l ++ [])
      rw [List.append_nil]; exact hl.le l1⟩
  | true =>
    obtain ⟨⟨x, σ2⟩, e2, hq⟩ := bnd hq
    obtain ⟨g2, l2, r2⟩ := o_expr σ1 g1 _ e2
    cases hq
    exact ⟨g2, l1.tr l2, fun l hl => r2 l (hl.le l1)⟩
/-- the root of an item -/
def itX (i : Itm) : List Nat := if i.1 = true then [] else [i.2.2]
def srX (s : Src) : List Nat := s.2.2.2.toList
theorem OrA.nl {A : List Nod} {l : List Nat} (h : OrA A l) : OrA A (l ++ []) := by rw [List.append_nil]; exact h
theorem o_item (σ : PS) : Sz src σ (pItem sx src σ) fun i τ => ∀ l, OrA (psA σ) l → OrA (psA τ) (l ++ itX i) := by
  intro g q hq
  unfold pItem at hq
  obtain ⟨⟨s, σ1⟩, e1, hq⟩ := bnd hq
  obtain ⟨g1, l1, _⟩ := (i_take "*" σ).sz g _ e1
  cases s with
  | true =>
    cases hq
    exact ⟨g1, l1, fun l hl => (hl.le l1).nl⟩
  | false =>
    obtain ⟨⟨st, σ2⟩, e2, hq⟩ := bnd hq
    obtain ⟨e2, hk⟩ := i_starred σ1 e2
    dsimp only at e2 hk
    subst e2
    cases st with
    | true =>
      obtain ⟨⟨_, σ3⟩, e3, hq⟩ := bnd hq
      obtain ⟨g3, l3, _⟩ := (i_next σ2).sz g1 _ e3
      obtain ⟨⟨_, σ4⟩, e4, hq⟩ := bnd hq
      obtain ⟨g4, l4, _⟩ := (i_next σ3).sz g3 _ e4
      obtain ⟨⟨_, σ5⟩, e5, hq⟩ := bnd hq
      obtain ⟨g5, l5, _⟩ := (i_next σ4).sz g4 _ e5
      cases hq
      exact ⟨g5, ((l1.tr l3).tr l4).tr l5, fun l hl => (hl.le (((l1.tr l3).tr l4).tr l5)).nl⟩
    | false =>
      obtain ⟨⟨x, σ3⟩, e3, hq⟩ := bnd hq
      obtain ⟨g3, l3, r3⟩ := o_expr σ2 g1 _ e3
      obtain ⟨⟨a, σ4⟩, e4, hq⟩ := bnd hq
      obtain ⟨g4, l4, _⟩ := (i_take "as" σ3).sz g3 _ e4
      cases a with
      | false =>
        cases hq
        exact ⟨g4, (l1.tr l3).tr l4, fun l hl => (r3 l (hl.le l1)).le l4⟩
      | true =>
        obtain ⟨⟨nm, σ5⟩, e5, hq⟩ := bnd hq
        obtain ⟨g5, l5, _⟩ := (i_name σ4).sz g4 _ e5
        cases hq
        exact ⟨g5, ((l1.tr l3).tr l4).tr l5, fun l hl => (r3 l (hl.le l1)).le (l4.tr l5)⟩
theorem o_items : ∀ n l σ, OrA (psA σ) (l.flatMap itX) → Sz src σ (pItems sx src n l σ) fun l' τ => OrA (psA τ) (l'.flatMap itX)
  | 0, l, σ, _ => fun _ q hq => by cases hq
  | n + 1, l, σ, hl => by
    intro g q hq
    unfold pItems at hq
    split at hq
    · cases hq
    · obtain ⟨⟨x, σ1⟩, e1, hq⟩ := bnd hq
      obtain ⟨g1, l1, r1⟩ := o_item σ g _ e1
      obtain ⟨⟨c, σ2⟩, e2, hq⟩ := bnd hq
      obtain ⟨g2, l2, _⟩ := (i_take "," σ1).sz g1 _ e2
      have rs : OrA (psA σ2) ((l ++ [x]).flatMap itX) := by
        rw [List.flatMap_append, List.flatMap_singleton]
        exact (r1 _ hl).le l2
      cases c with
      | false =>
        cases hq
        exact ⟨g2, l1.tr l2, rs⟩
      | true =>
        obtain ⟨g3, l3, p3⟩ := o_items n (l ++ [x]) σ2 rs g2 q hq
        exact ⟨g3, (l1.tr l2).tr l3, p3⟩
theorem o_source (k : Nat) (j lf : Bool) (σ : PS) : Sz src σ (pSource sx src k j lf σ) fun s τ => ∀ l, OrA (psA σ) l → OrA (psA τ) (l ++ srX s) := by
  intro g q hq
  unfold pSource at hq
  split at hq
  · cases hq
  · obtain ⟨⟨t, σ1⟩, e1, hq⟩ := bnd hq
    obtain ⟨g1, l1, _⟩ := (i_name σ).sz g _ e1
    obtain ⟨⟨a, σ2⟩, e2, hq⟩ := bnd hq
    obtain ⟨g2, l2, _⟩ := (i_take "as" σ1).sz g1 _ e2
    obtain ⟨⟨nm, σ3⟩, e3, hq⟩ := bnd hq
    have hi : Iz src σ2 (if (a || tkK (psT σ2) == 2) = true then pName sx src σ2 else .ok (t, σ2)) := Iz.ite (fun _ => i_name σ2) fun _ => Iz.ok
    obtain ⟨g3, l3, _⟩ := hi.sz g2 _ e3
    cases j with
    | false =>
      cases hq
      exact ⟨g3, (l1.tr l2).tr l3, fun l hl => (hl.le ((l1.tr l2).tr l3)).nl⟩
    | true =>
      obtain ⟨⟨_, σ4⟩, e4, hq⟩ := bnd hq
      obtain ⟨g4, l4, _⟩ := (i_need "on" σ3).sz g3 _ e4
      obtain ⟨⟨x, σ5⟩, e5, hq⟩ := bnd hq
      obtain ⟨g5, l5, r5⟩ := o_expr σ4 g4 _ e5
      cases hq
      exact ⟨g5, (((l1.tr l2).tr l3).tr l4).tr l5, fun l hl => r5 l (hl.le (((l1.tr l2).tr l3).tr l4))⟩
theorem o_sources (l0 : List Nat) : ∀ n l σ, OrA (psA σ) (l0 ++ l.flatMap srX) → Sz src σ (pSources sx src n l σ) fun l' τ => OrA (psA τ) (l0 ++ l'.flatMap srX)
  | 0, l, σ, _ => fun _ q hq => by cases hq
  | n + 1, l, σ, hl => by
    intro g q hq
    unfold pSources at hq
    split at hq
    · obtain ⟨⟨_, σ1⟩, e1, hq⟩ := bnd hq
      obtain ⟨g1, l1, _⟩ := (i_next σ).sz g _ e1
      obtain ⟨⟨s, σ2⟩, e2, hq⟩ := bnd hq
      obtain ⟨g2, l2, r2⟩ := o_source l.length false false σ1 g1 _ e2
      obtain ⟨g3, l3, p3⟩ := o_sources l0 n (l ++ [s]) σ2 (by
        rw [List.flatMap_append, List.flatMap_singleton, ← List.append_assoc]
        exact r2 _ (hl.le l1)) g2 q hq
      exact ⟨g3, (l1.tr l2).tr l3, p3⟩
    · split at hq
      · obtain ⟨⟨lf, σ1⟩, e1, hq⟩ := bnd hq
        obtain ⟨g1, l1, _⟩ := (i_take "left" σ).sz g _ e1
        obtain ⟨⟨_, σ1b⟩, e1b, hq⟩ := bnd hq
        obtain ⟨g1b, l1b, _⟩ := (i_need "join" σ1).sz g1 _ e1b
        obtain ⟨⟨s, σ2⟩, e2, hq⟩ := bnd hq
        obtain ⟨g2, l2, r2⟩ := o_source l.length true lf σ1b g1b _ e2
        obtain ⟨g3, l3, p3⟩ := o_sources l0 n (l ++ [s]) σ2 (by
          rw [List.flatMap_append, List.flatMap_singleton, ← List.append_assoc]
          exact r2 _ (hl.le (l1.tr l1b))) g2 q hq
        exact ⟨g3, ((l1.tr l1b).tr l2).tr l3, p3⟩
      · cases hq
        exact ⟨g, Le.rf _, hl⟩
theorem o_from (σ : PS) (l0 : List Nat) (hl : OrA (psA σ) l0) : Sz src σ (pFrom sx src σ) fun l τ => OrA (psA τ) (l0 ++ l.flatMap srX) := by
  intro g q hq
  unfold pFrom at hq
  obtain ⟨⟨b, σ1⟩, e1, hq⟩ := bnd hq
  obtain ⟨g1, l1, _⟩ := (i_take "from" σ).sz g _ e1
  cases b with
  | false =>
    cases hq
    exact ⟨g1, l1, (hl.le l1).nl⟩
  | true =>
    obtain ⟨⟨s, σ2⟩, e2, hq⟩ := bnd hq
    obtain ⟨g2, l2, r2⟩ := o_source 0 false false σ1 g1 _ e2
    obtain ⟨g3, l3, p3⟩ := o_sources l0 5 [s] σ2 (by rw [List.flatMap_singleton]; exact r2 _ (hl.le l1)) g2 q hq
    exact ⟨g3, (l1.tr l2).tr l3, p3⟩
theorem o_groups (σ : PS) (l0 : List Nat) (hl : OrA (psA σ) l0) : Sz src σ (pGroups sx src σ) fun l τ => OrA (psA τ) (l0 ++ l) := by
  intro g q hq
  unfold pGroups at hq
  obtain ⟨⟨b, σ1⟩, e1, hq⟩ := bnd hq
  obtain ⟨g1, l1, _⟩ := (i_take "group" σ).sz g _ e1
  cases b with
  | false =>
    cases hq
    exact ⟨g1, l1, (hl.le l1).nl⟩
  | true =>
    obtain ⟨⟨_, σ2⟩, e2, hq⟩ := bnd hq
    obtain ⟨g2, l2, _⟩ := (i_need "by" σ1).sz g1 _ e2
    obtain ⟨g3, l3, p3⟩ := o_list 8 l0 9 [] σ2 (hl.le (l1.tr l2)).nl g2 q hq
    exact ⟨g3, (l1.tr l2).tr l3, p3⟩
theorem o_ordL (l0 : List Nat) : ∀ n l σ, OrA (psA σ) (l0 ++ l.map (·.1)) → Sz src σ (pOrdL sx src n l σ) fun l' τ => OrA (psA τ) (l0 ++ l'.map (·.1))
  | 0, l, σ, _ => fun _ q hq => by cases hq
  | n + 1, l, σ, hl => by
    intro g q hq
    unfold pOrdL at hq
    split at hq
    · cases hq
    · obtain ⟨⟨x, σ1⟩, e1, hq⟩ := bnd hq
      obtain ⟨g1, l1, r1⟩ := o_expr σ g _ e1
      obtain ⟨⟨_, σ2⟩, e2, hq⟩ := bnd hq
      have hi : Iz src σ1 (if (pIs σ1 "desc" || pIs σ1 "asc") = true then pNext sx src σ1 else .ok ((), σ1)) := Iz.ite (fun _ => i_next σ1) fun _ => Iz.ok
      obtain ⟨g2, l2, _⟩ := hi.sz g1 _ e2
      obtain ⟨⟨b, σ3⟩, e3, hq⟩ := bnd hq
      obtain ⟨g3, l3, _⟩ := (i_take "," σ2).sz g2 _ e3
      have hc : OrA (psA σ3) (l0 ++ (l ++ [(x, pIs σ1 "desc")]).map (·.1)) := by
        rw [List.map_append, ← List.append_assoc]
        exact (r1 _ hl).le (l2.tr l3)
      cases b with
      | false =>
        cases hq
        exact ⟨g3, (l1.tr l2).tr l3, hc⟩
      | true =>
        obtain ⟨g4, l4, p4⟩ := o_ordL l0 n _ σ3 hc g3 q hq
        exact ⟨g4, ((l1.tr l2).tr l3).tr l4, p4⟩
theorem o_orders (σ : PS) (l0 : List Nat) (hl : OrA (psA σ) l0) : Sz src σ (pOrders sx src σ) fun l τ => OrA (psA τ) (l0 ++ l.map (·.1)) := by
  intro g q hq
  unfold pOrders at hq
  obtain ⟨⟨b, σ1⟩, e1, hq⟩ := bnd hq
  obtain ⟨g1, l1, _⟩ := (i_take "order" σ).sz g _ e1
  cases b with
  | false =>
    cases hq
    exact ⟨g1, l1, (hl.le l1).nl⟩
  | true =>
    obtain ⟨⟨_, σ2⟩, e2, hq⟩ := bnd hq
    obtain ⟨g2, l2, _⟩ := (i_need "by" σ1).sz g1 _ e2
    obtain ⟨g3, l3, p3⟩ := o_ordL l0 9 [] σ2 (hl.le (l1.tr l2)).nl g2 q hq
    exact ⟨g3, (l1.tr l2).tr l3, p3⟩
/-- the roots of a selection, as they stand -/
def slXs (s : Stm) : List Nat := ((((((slI (smS s)).flatMap itX) ++ (slF (smS s)).flatMap srX) ++ (smW s).toList) ++ slG (smS s)) ++ (slH (smS s)).toList) ++ (slO (smS s)).map (·.1)
theorem o_select (σ : PS) : Sz src σ (pSelect sx src σ) fun s _ => smK s = 8 ∧ OrA (smA s) (slXs s) := by
  intro g q hq
  unfold pSelect at hq
  obtain ⟨⟨ds, σ1⟩, e1, hq⟩ := bnd hq
  obtain ⟨g1, l1, _⟩ := (i_take "distinct" σ).sz g _ e1
  obtain ⟨⟨is, σ2⟩, e2, hq⟩ := bnd hq
  obtain ⟨g2, l2, p2⟩ := o_items 13 [] σ1 OrA.nil g1 _ e2
  obtain ⟨⟨fs, σ3⟩, e3, hq⟩ := bnd hq
  obtain ⟨g3, l3, p3⟩ := o_from σ2 _ p2 g2 _ e3
  obtain ⟨⟨wh, σ4⟩, e4, hq⟩ := bnd hq
  obtain ⟨g4, l4, p4⟩ := o_where "where" σ3 g3 _ e4
  obtain ⟨⟨gs, σ5⟩, e5, hq⟩ := bnd hq
  obtain ⟨g5, l5, p5⟩ := o_groups σ4 _ (p4 _ p3) g4 _ e5
  obtain ⟨⟨hv, σ6⟩, e6, hq⟩ := bnd hq
  obtain ⟨g6, l6, p6⟩ := o_where "having" σ5 g5 _ e6
  obtain ⟨⟨os, σ7⟩, e7, hq⟩ := bnd hq
  obtain ⟨g7, l7, p7⟩ := o_orders σ6 _ (p6 _ p5) g6 _ e7
  obtain ⟨⟨li, σ8⟩, e8, hq⟩ := bnd hq
  obtain ⟨g8, l8, p8⟩ := s_int "limit" σ7 g7 _ e8
  obtain ⟨⟨of, σ9⟩, e9, hq⟩ := bnd hq
  obtain ⟨g9, l9, p9⟩ := s_int "offset" σ8 g8 _ e9
  cases hq
  exact ⟨g9, (l1.tr l2).tr (l3.tr (l4.tr (l5.tr (l6.tr (l7.tr (l8.tr l9)))))), rfl, OrA.le p7 (l8.tr l9)⟩
/-- the roots of INSERT, UPDATE, DELETE -/
def smX (s : Stm) : List Nat := (smR s).flatten ++ (smW s).toList
theorem o_stm0 (σ : PS) : Sz src σ (pStm0 sx src σ) fun s _ => (smK s = 2 ∨ smK s = 3 ∨ smK s = 4 → OrA (smA s) (smX s)) ∧ (smK s = 8 → OrA (smA s) (slXs s)) := by
  intro g q hq
  obtain ⟨ga, la, _⟩ := s_stm0 σ g q hq
  refine ⟨ga, la, ?_⟩
  unfold pStm0 at hq
  split at hq
  · obtain ⟨⟨_, σ1⟩, e1, hq⟩ := bnd hq
    obtain ⟨⟨_, σ2⟩, e2, hq⟩ := bnd hq
    obtain ⟨⟨t, σ3⟩, e3, hq⟩ := bnd hq
    obtain ⟨⟨_, σ4⟩, e4, hq⟩ := bnd hq
    obtain ⟨⟨cs, σ5⟩, e5, hq⟩ := bnd hq
    obtain ⟨⟨_, σ6⟩, e6, hq⟩ := bnd hq
    cases hq
    exact ⟨fun hk => (by rcases hk with h | h | h <;> cases h), fun hk => (by cases hk)⟩
  split at hq
  · obtain ⟨⟨_, σ1⟩, e1, hq⟩ := bnd hq
    obtain ⟨⟨_, σ2⟩, e2, hq⟩ := bnd hq
    obtain ⟨⟨t, σ3⟩, e3, hq⟩ := bnd hq
    cases hq
    exact ⟨fun hk => (by rcases hk with h | h | h <;> cases h), fun hk => (by cases hk)⟩
  split at hq
  · obtain ⟨⟨_, σ1⟩, e1, hq⟩ := bnd hq
    obtain ⟨g1, l1, _⟩ := (i_next σ).sz g _ e1
    obtain ⟨⟨_, σ2⟩, e2, hq⟩ := bnd hq
    obtain ⟨g2, l2, _⟩ := (i_need "into" σ1).sz g1 _ e2
    obtain ⟨⟨t, σ3⟩, e3, hq⟩ := bnd hq
    obtain ⟨g3, l3, _⟩ := (i_name σ2).sz g2 _ e3
    obtain ⟨⟨b, σ4⟩, e4, hq⟩ := bnd hq
    obtain ⟨g4, l4, _⟩ := (i_take "(" σ3).sz g3 _ e4
    obtain ⟨⟨ns, σ5⟩, e5, hq⟩ := bnd hq
    have h5 : G0 src σ5 := by
      cases b with
      | false =>
        cases e5
        exact g4
      | true =>
        obtain ⟨⟨l, σ5a⟩, ea, e5⟩ := bnd e5
        obtain ⟨ga, la, pa⟩ := s_names 11 [] σ4 (by simp) g4 _ ea
        obtain ⟨⟨_, σ5b⟩, eb, e5⟩ := bnd e5
        obtain ⟨gb, lb, _⟩ := (i_need ")" σ5a).sz ga _ eb
        cases e5
        exact gb
    obtain ⟨⟨_, σ6⟩, e6, hq⟩ := bnd hq
    obtain ⟨g6, l6, _⟩ := (i_need "values" σ5).sz h5 _ e6
    obtain ⟨⟨rs, σ7⟩, e7, hq⟩ := bnd hq
    obtain ⟨g7, l7, p7⟩ := o_rows 21 [] σ6 OrA.nil g6 _ e7
    cases hq
    exact ⟨fun _ => OrA.nl p7, fun hk => by cases hk⟩
  split at hq
  · obtain ⟨⟨_, σ1⟩, e1, hq⟩ := bnd hq
    obtain ⟨g1, l1, _⟩ := (i_next σ).sz g _ e1
    obtain ⟨⟨t, σ2⟩, e2, hq⟩ := bnd hq
    obtain ⟨g2, l2, _⟩ := (i_name σ1).sz g1 _ e2
    obtain ⟨⟨_, σ3⟩, e3, hq⟩ := bnd hq
    obtain ⟨g3, l3, _⟩ := (i_need "set" σ2).sz g2 _ e3
    obtain ⟨⟨w, σ4⟩, e4, hq⟩ := bnd hq
    obtain ⟨g4, l4, p4⟩ := o_sets 11 [] [] σ3 OrA.nil g3 _ e4
    obtain ⟨⟨wh, σ5⟩, e5, hq⟩ := bnd hq
    obtain ⟨g5, l5, p5⟩ := o_where "where" σ4 g4 _ e5
    cases hq
    refine ⟨fun _ => ?_, fun hk => by cases hk⟩
    show OrA (psA σ5) ([w.2].flatten ++ wh.toList)
    rw [List.flatten_singleton]
    exact p5 _ p4
  split at hq
  · obtain ⟨⟨_, σ1⟩, e1, hq⟩ := bnd hq
    obtain ⟨g1, l1, _⟩ := (i_next σ).sz g _ e1
    obtain ⟨⟨_, σ2⟩, e2, hq⟩ := bnd hq
    obtain ⟨g2, l2, _⟩ := (i_need "from" σ1).sz g1 _ e2
    obtain ⟨⟨t, σ3⟩, e3, hq⟩ := bnd hq
    obtain ⟨g3, l3, _⟩ := (i_name σ2).sz g2 _ e3
    obtain ⟨⟨wh, σ5⟩, e5, hq⟩ := bnd hq
    obtain ⟨g5, l5, p5⟩ := o_where "where" σ3 g3 _ e5
    cases hq
    exact ⟨fun _ => p5 [] OrA.nil, fun hk => by cases hk⟩
  split at hq
  · obtain ⟨⟨_, σ1⟩, e1, hq⟩ := bnd hq
    cases hq
    have k0 : ∀ z : Nat, (if pIs σ "begin" = true then 5 else if pIs σ "commit" = true then 6 else 7) = z → 5 ≤ z ∧ z ≤ 7 := fun z e => by
      rw [← e]
      split
      · omega
      · split <;> omega
    refine ⟨fun hk => ?_, fun hk => ?_⟩
    · rcases hk with e | e | e
      · have := k0 2 e; omega
      · have := k0 3 e; omega
      · have := k0 4 e; omega
    · have := k0 8 hk; omega
  · obtain ⟨⟨_, σ1⟩, e1, hq⟩ := bnd hq
    obtain ⟨g1, l1, _⟩ := (i_need "select" σ).sz g _ e1
    obtain ⟨g2, l2, p2, p3⟩ := o_select σ1 g1 q hq
    exact ⟨fun hk => by omega, fun _ => p3⟩
end
