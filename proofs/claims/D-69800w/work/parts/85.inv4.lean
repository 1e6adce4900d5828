/-! statements: what their trees and lists are like -/
def Rt (A : List Nod) (r : Nat) : Prop := r < A.length ∧ HB A 390 r
def Rts (A : List Nod) (l : List Nat) : Prop := ∀ r ∈ l, Rt A r
def RtO (A : List Nod) (o : Option Nat) : Prop := ∀ r, o = some r → Rt A r
def G0 (src : Str) (σ : PS) : Prop := Gd src σ ∧ psO σ = 0 ∧ psN σ ≤ 300 ∧ psP σ ≤ 8
theorem G0.le {src : Str} {σ τ : PS} (h : G0 src σ) (g : Gd src τ) (l : Le σ τ) : G0 src τ := ⟨g, by rw [l.1]; exact h.2.1, l.2.2.1 h.2.2.1, l.2.2.2.2.1 h.2.2.2⟩
theorem Rt.le {src : Str} {a b : PS} {r : Nat} (h : Rt (psA a) r) (g : G0 src a) (l : Le a b) : Rt (psA b) r := ⟨Nat.lt_of_lt_of_le h.1 l.len, l.hb g.1 h.2 h.1⟩
theorem Rts.le {src : Str} {a b : PS} {l : List Nat} (h : Rts (psA a) l) (g : G0 src a) (hl : Le a b) : Rts (psA b) l := fun r hr => (h r hr).le g hl
theorem RtO.le {src : Str} {a b : PS} {o : Option Nat} (h : RtO (psA a) o) (g : G0 src a) (hl : Le a b) : RtO (psA b) o := fun r hr => (h r hr).le g hl
theorem Rts.snoc {A : List Nod} {l : List Nat} {r : Nat} (h : Rts A l) (hr : Rt A r) : Rts A (l ++ [r]) := by
  intro x hx
  rcases List.mem_append.mp hx with e | e
  · exact h x e
  · rw [List.mem_singleton.mp e]; exact hr
/-- a step from a good state, with what holds of its result -/
def Sz {α : Type} (src : Str) (σ : PS) (x : Except Nat (α × PS)) (P : α → PS → Prop) : Prop := G0 src σ → ∀ q, x = .ok q → G0 src q.2 ∧ Le σ q.2 ∧ P q.1 q.2
theorem Iz.sz {α : Type} {src : Str} {σ : PS} {x : Except Nat (α × PS)} (h : Iz src σ x) : Sz src σ x fun _ _ => True := fun g q hq => by
  obtain ⟨a, b⟩ := h g.1 q hq
  exact ⟨g.le a b, b, trivial⟩
section
variable {sx : Bool} {src : Str}
theorem s_expr (σ : PS) : Sz src σ (pExpr sx src 31 σ) fun x τ => Rt (psA τ) x := by
  intro g q hq
  obtain ⟨a, b, c⟩ := x_expr 31 σ g.1 q hq
  refine ⟨g.le a b, b, by rw [← c.1]; exact Nat.lt_succ_self _, c.2.2.2.2.mono ?_⟩
  have := b.2.2.1 g.2.2.1
  rw [g.2.1]; omega
theorem s_list (m : Nat) : ∀ n l σ, Rts (psA σ) l → l.length ≤ m → Sz src σ (pList (pExpr sx src 31) sx src m n l σ) fun l' τ => Rts (psA τ) l' ∧ 1 ≤ l'.length ∧ l'.length ≤ m
  | 0, l, σ, _, _ => fun _ q hq => by cases hq
  | n + 1, l, σ, hl, hm => by
    intro g q hq
    unfold pList at hq
    split at hq
    · cases hq
    · rename_i hm'
      have hm' : l.length ≠ m := by simpa using hm'
      obtain ⟨⟨x, σ1⟩, e1, hq⟩ := bnd hq
      obtain ⟨g1, l1, r1⟩ := s_expr σ g _ e1
      obtain ⟨⟨c, σ2⟩, e2, hq⟩ := bnd hq
      obtain ⟨g2, l2, _⟩ := (i_take "," σ1).sz g1 _ e2
      have rs := ((hl.le g l1).snoc r1).le g1 l2
      cases c with
      | false =>
        cases hq
        exact ⟨g2, l1.tr l2, rs, by simp, by simp; omega⟩
      | true =>
        obtain ⟨g3, l3, p3⟩ := s_list m n (l ++ [x]) σ2 rs (by simp; omega) g2 q hq
        exact ⟨g3, (l1.tr l2).tr l3, p3⟩
def ColOk (c : Col) : Prop := c.1.length ≤ 20 ∧ (c.2.1 = 16 ∨ c.2.1 = 20 ∨ c.2.1 = 25)
theorem s_mods : ∀ n nd un σ, Sz src σ (pMods sx src n nd un σ) fun _ _ => True
  | 0, _, _, σ => fun _ q hq => by cases hq
  | n + 1, nd, un, σ => by
    intro g q hq
    unfold pMods at hq
    split at hq
    · obtain ⟨⟨_, σ1⟩, e1, hq⟩ := bnd hq
      obtain ⟨g1, l1, _⟩ := (i_next σ).sz g _ e1
      obtain ⟨⟨_, σ2⟩, e2, hq⟩ := bnd hq
      obtain ⟨g2, l2, _⟩ := (i_need "null" σ1).sz g1 _ e2
      obtain ⟨g3, l3, _⟩ := s_mods n true un σ2 g2 q hq
      exact ⟨g3, (l1.tr l2).tr l3, trivial⟩
    · split at hq
      · obtain ⟨⟨_, σ1⟩, e1, hq⟩ := bnd hq
        obtain ⟨g1, l1, _⟩ := (i_next σ).sz g _ e1
        obtain ⟨g3, l3, _⟩ := s_mods n nd true σ1 g1 q hq
        exact ⟨g3, l1.tr l3, trivial⟩
      · split at hq
        · obtain ⟨⟨_, σ1⟩, e1, hq⟩ := bnd hq
          obtain ⟨g1, l1, _⟩ := (i_next σ).sz g _ e1
          obtain ⟨⟨_, σ2⟩, e2, hq⟩ := bnd hq
          obtain ⟨g2, l2, _⟩ := (i_need "key" σ1).sz g1 _ e2
          obtain ⟨g3, l3, _⟩ := s_mods n true true σ2 g2 q hq
          exact ⟨g3, (l1.tr l2).tr l3, trivial⟩
        · cases hq
          exact ⟨g, Le.rf _, trivial⟩
theorem s_column (σ : PS) : Sz src σ (pColumn sx src σ) fun c _ => ColOk c := by
  intro g q hq
  unfold pColumn at hq
  obtain ⟨⟨s, σ1⟩, e1, hq⟩ := bnd hq
  obtain ⟨g1, l1, _⟩ := (i_name σ).sz g _ e1
  have hs := nm_len g.1 e1
  dsimp only at hq
  split at hq
  · cases hq
  · obtain ⟨⟨_, σ2⟩, e2, hq⟩ := bnd hq
    obtain ⟨g2, l2, _⟩ := (i_next σ1).sz g1 _ e2
    obtain ⟨⟨m, σ3⟩, e3, hq⟩ := bnd hq
    obtain ⟨g3, l3, _⟩ := s_mods _ _ _ σ2 g2 _ e3
    cases hq
    refine ⟨g3, (l1.tr l2).tr l3, hs, ?_⟩
    show (if pIs σ1 "int" = true then 20 else if pIs σ1 "text" = true then 25 else 16) = 16 ∨ _
    split
    · exact Or.inr (Or.inl rfl)
    · split
      · exact Or.inr (Or.inr rfl)
      · exact Or.inl rfl
theorem s_cols : ∀ n l σ, (∀ c ∈ l, ColOk c) → l.length ≤ 10 → Sz src σ (pCols sx src n l σ) fun l' _ => (∀ c ∈ l', ColOk c) ∧ 1 ≤ l'.length ∧ l'.length ≤ 10
  | 0, l, σ, _, _ => fun _ q hq => by cases hq
  | n + 1, l, σ, hl, hm => by
    intro g q hq
    unfold pCols at hq
    split at hq
    · cases hq
    · rename_i hm'
      have hm' : l.length ≠ 10 := by simpa using hm'
      obtain ⟨⟨c, σ1⟩, e1, hq⟩ := bnd hq
      obtain ⟨g1, l1, r1⟩ := s_column σ g _ e1
      obtain ⟨⟨b, σ2⟩, e2, hq⟩ := bnd hq
      obtain ⟨g2, l2, _⟩ := (i_take "," σ1).sz g1 _ e2
      have hc : ∀ d ∈ l ++ [c], ColOk d := fun d hd => by
        rcases List.mem_append.mp hd with e | e
        · exact hl d e
        · rw [List.mem_singleton.mp e]; exact r1
      cases b with
      | false =>
        cases hq
        exact ⟨g2, l1.tr l2, hc, by simp, by simp; omega⟩
      | true =>
        obtain ⟨g3, l3, p3⟩ := s_cols n (l ++ [c]) σ2 hc (by simp; omega) g2 q hq
        exact ⟨g3, (l1.tr l2).tr l3, p3⟩
theorem s_names : ∀ n l σ, l.length ≤ 10 → Sz src σ (pNames sx src n l σ) fun l' _ => 1 ≤ l'.length ∧ l'.length ≤ 10
  | 0, l, σ, _ => fun _ q hq => by cases hq
  | n + 1, l, σ, hm => by
    intro g q hq
    unfold pNames at hq
    split at hq
    · cases hq
    · rename_i hm'
      have hm' : l.length ≠ 10 := by simpa using hm'
      obtain ⟨⟨c, σ1⟩, e1, hq⟩ := bnd hq
      obtain ⟨g1, l1, r1⟩ := (i_name σ).sz g _ e1
      obtain ⟨⟨b, σ2⟩, e2, hq⟩ := bnd hq
      obtain ⟨g2, l2, _⟩ := (i_take "," σ1).sz g1 _ e2
      cases b with
      | false =>
        cases hq
        exact ⟨g2, l1.tr l2, by simp, by simp; omega⟩
      | true =>
        obtain ⟨g3, l3, p3⟩ := s_names n (l ++ [c]) σ2 (by simp; omega) g2 q hq
        exact ⟨g3, (l1.tr l2).tr l3, p3⟩
theorem s_rows : ∀ n l σ, (∀ r ∈ l, Rts (psA σ) r ∧ 1 ≤ r.length ∧ r.length ≤ 10) → l.length ≤ 20 → Sz src σ (pRows sx src n l σ) fun l' τ => (∀ r ∈ l', Rts (psA τ) r ∧ 1 ≤ r.length ∧ r.length ≤ 10) ∧ 1 ≤ l'.length ∧ l'.length ≤ 20
  | 0, l, σ, _, _ => fun _ q hq => by cases hq
  | n + 1, l, σ, hl, hm => by
    intro g q hq
    unfold pRows at hq
    split at hq
    · cases hq
    · rename_i hm'
      have hm' : l.length ≠ 20 := by simpa using hm'
      obtain ⟨⟨_, σ1⟩, e1, hq⟩ := bnd hq
      obtain ⟨g1, l1, _⟩ := (i_need "(" σ).sz g _ e1
      obtain ⟨⟨r, σ2⟩, e2, hq⟩ := bnd hq
      obtain ⟨g2, l2, r2⟩ := s_list 10 11 [] σ1 (fun _ h => by cases h) (by simp) g1 _ e2
      obtain ⟨⟨_, σ3⟩, e3, hq⟩ := bnd hq
      obtain ⟨g3, l3, _⟩ := (i_need ")" σ2).sz g2 _ e3
      obtain ⟨⟨b, σ4⟩, e4, hq⟩ := bnd hq
      obtain ⟨g4, l4, _⟩ := (i_take "," σ3).sz g3 _ e4
      have hr : ∀ d ∈ l ++ [r], Rts (psA σ4) d ∧ 1 ≤ d.length ∧ d.length ≤ 10 := fun d hd => by
        rcases List.mem_append.mp hd with e | e
        · exact ⟨(hl d e).1.le g (((l1.tr l2).tr l3).tr l4), (hl d e).2⟩
        · rw [List.mem_singleton.mp e]; exact ⟨r2.1.le g2 (l3.tr l4), r2.2⟩
      cases b with
      | false =>
        cases hq
        exact ⟨g4, ((l1.tr l2).tr l3).tr l4, hr, by simp, by simp; omega⟩
      | true =>
        obtain ⟨g5, l5, p5⟩ := s_rows n (l ++ [r]) σ4 hr (by simp; omega) g4 q hq
        exact ⟨g5, (((l1.tr l2).tr l3).tr l4).tr l5, p5⟩
theorem s_sets : ∀ n l v σ, l.length = v.length → Rts (psA σ) v → l.length ≤ 10 → Sz src σ (pSets sx src n l v σ) fun r τ => r.1.length = r.2.length ∧ Rts (psA τ) r.2 ∧ 1 ≤ r.1.length ∧ r.1.length ≤ 10
  | 0, l, v, σ, _, _, _ => fun _ q hq => by cases hq
  | n + 1, l, v, σ, hlv, hv, hm => by
    intro g q hq
    unfold pSets at hq
    split at hq
    · cases hq
    · rename_i hm'
      have hm' : l.length ≠ 10 := by simpa using hm'
      obtain ⟨⟨c, σ1⟩, e1, hq⟩ := bnd hq
      obtain ⟨g1, l1, _⟩ := (i_name σ).sz g _ e1
      obtain ⟨⟨_, σ2⟩, e2, hq⟩ := bnd hq
      obtain ⟨g2, l2, _⟩ := (i_need "=" σ1).sz g1 _ e2
      obtain ⟨⟨x, σ3⟩, e3, hq⟩ := bnd hq
      obtain ⟨g3, l3, r3⟩ := s_expr σ2 g2 _ e3
      obtain ⟨⟨b, σ4⟩, e4, hq⟩ := bnd hq
      obtain ⟨g4, l4, _⟩ := (i_take "," σ3).sz g3 _ e4
      have hr := ((hv.le g ((l1.tr l2).tr l3)).snoc r3).le g3 l4
      cases b with
      | false =>
        cases hq
        exact ⟨g4, ((l1.tr l2).tr l3).tr l4, by simp [hlv], hr, by simp, by simp; omega⟩
      | true =>
        obtain ⟨g5, l5, p5⟩ := s_sets n (l ++ [c]) (v ++ [x]) σ4 (by simp [hlv]) hr (by simp; omega) g4 q hq
        exact ⟨g5, (((l1.tr l2).tr l3).tr l4).tr l5, p5⟩
theorem s_where (s : String) (σ : PS) : Sz src σ (pWhere sx src s σ) fun o τ => RtO (psA τ) o := by
  intro g q hq
  unfold pWhere at hq
  obtain ⟨⟨b, σ1⟩, e1, hq⟩ := bnd hq
  obtain ⟨g1, l1, _⟩ := (i_take s σ).sz g _ e1
  cases b with
  | false =>
    cases hq
    exact ⟨g1, l1, fun r hr => by cases hr⟩
  | true =>
    obtain ⟨⟨x, σ2⟩, e2, hq⟩ := bnd hq
    obtain ⟨g2, l2, r2⟩ := s_expr σ1 g1 _ e2
    cases hq
    exact ⟨g2, l1.tr l2, fun r hr => by cases hr; exact r2⟩
def ItmOk (A : List Nod) (i : Itm) : Prop := (∀ s, i.2.1 = some s → s.length ≤ 20) ∧ (i.1 = false → Rt A i.2.2)
theorem ItmOk.le {a b : PS} {i : Itm} (h : ItmOk (psA a) i) (g : G0 src a) (l : Le a b) : ItmOk (psA b) i := ⟨h.1, fun e => (h.2 e).le g l⟩
theorem i_starred (σ : PS) {q : Bool × PS} (hq : pStarred sx src σ = .ok q) : q.2 = σ ∧ (q.1 = true → tkK (psT σ) = 2) := by
  unfold pStarred at hq
  split at hq
  · rename_i hk
    refine ⟨?_, fun _ => by simpa using hk⟩
    split at hq
    · cases hq
    · split at hq
      · split at hq
        · cases hq
        · cases hq; rfl
      · cases hq; rfl
  · cases hq
    exact ⟨rfl, fun h => by cases h⟩
theorem s_item (σ : PS) : Sz src σ (pItem sx src σ) fun i τ => ItmOk (psA τ) i := by
  intro g q hq
  unfold pItem at hq
  obtain ⟨⟨s, σ1⟩, e1, hq⟩ := bnd hq
  obtain ⟨g1, l1, _⟩ := (i_take "*" σ).sz g _ e1
  cases s with
  | true =>
    cases hq
    exact ⟨g1, l1, fun s h => (by cases h), fun h => by cases h⟩
  | false =>
    obtain ⟨⟨st, σ2⟩, e2, hq⟩ := bnd hq
    obtain ⟨e2, hk⟩ := i_starred σ1 e2
    dsimp only at e2 hk
    subst e2
    cases st with
    | true =>
      obtain ⟨⟨_, σ3⟩, e3, hq⟩ := bnd hq
      obtain ⟨g3, l3, _⟩ := (i_next σ2).sz g1 _ e3
      obtain ⟨⟨_, σ4⟩, e4, hq⟩ := bnd hq
      obtain ⟨g4, l4, _⟩ := (i_next σ3).sz g3 _ e4
      obtain ⟨⟨_, σ5⟩, e5, hq⟩ := bnd hq
      obtain ⟨g5, l5, _⟩ := (i_next σ4).sz g4 _ e5
      cases hq
      refine ⟨g5, ((l1.tr l3).tr l4).tr l5, fun s h => ?_, fun h => by cases h⟩
      cases h
      obtain ⟨p, hp⟩ := g1.1.1
      have := tok_name src p
      rw [← hp] at this
      exact this (hk rfl)
    | false =>
      obtain ⟨⟨x, σ3⟩, e3, hq⟩ := bnd hq
      obtain ⟨g3, l3, r3⟩ := s_expr σ2 g1 _ e3
      obtain ⟨⟨a, σ4⟩, e4, hq⟩ := bnd hq
      obtain ⟨g4, l4, _⟩ := (i_take "as" σ3).sz g3 _ e4
      cases a with
      | false =>
        cases hq
        exact ⟨g4, (l1.tr l3).tr l4, fun s h => (by cases h), fun _ => r3.le g3 l4⟩
      | true =>
        obtain ⟨⟨nm, σ5⟩, e5, hq⟩ := bnd hq
        obtain ⟨g5, l5, _⟩ := (i_name σ4).sz g4 _ e5
        have hn := nm_len g4.1 e5
        cases hq
        exact ⟨g5, ((l1.tr l3).tr l4).tr l5, fun s h => by cases h; exact hn, fun _ => r3.le g3 (l4.tr l5)⟩
theorem s_items : ∀ n l σ, (∀ i ∈ l, ItmOk (psA σ) i) → l.length ≤ 12 → Sz src σ (pItems sx src n l σ) fun l' τ => (∀ i ∈ l', ItmOk (psA τ) i) ∧ 1 ≤ l'.length ∧ l'.length ≤ 12
  | 0, l, σ, _, _ => fun _ q hq => by cases hq
  | n + 1, l, σ, hl, hm => by
    intro g q hq
    unfold pItems at hq
    split at hq
    · cases hq
    · rename_i hm'
      have hm' : l.length ≠ 12 := by simpa using hm'
      obtain ⟨⟨c, σ1⟩, e1, hq⟩ := bnd hq
      obtain ⟨g1, l1, r1⟩ := s_item σ g _ e1
      obtain ⟨⟨b, σ2⟩, e2, hq⟩ := bnd hq
      obtain ⟨g2, l2, _⟩ := (i_take "," σ1).sz g1 _ e2
      have hc : ∀ d ∈ l ++ [c], ItmOk (psA σ2) d := fun d hd => by
        rcases List.mem_append.mp hd with e | e
        · exact (hl d e).le g (l1.tr l2)
        · rw [List.mem_singleton.mp e]; exact r1.le g1 l2
      cases b with
      | false =>
        cases hq
        exact ⟨g2, l1.tr l2, hc, by simp, by simp; omega⟩
      | true =>
        obtain ⟨g3, l3, p3⟩ := s_items n (l ++ [c]) σ2 hc (by simp; omega) g2 q hq
        exact ⟨g3, (l1.tr l2).tr l3, p3⟩
def SrcOk (A : List Nod) (s : Src) : Prop := RtO A s.2.2.2
theorem s_source (k : Nat) (j lf : Bool) (σ : PS) : Sz src σ (pSource sx src k j lf σ) fun s τ => SrcOk (psA τ) s ∧ k ≠ 3 := by
  intro g q hq
  unfold pSource at hq
  split at hq
  · cases hq
  · rename_i hk
    have hk : k ≠ 3 := by simpa using hk
    obtain ⟨⟨t, σ1⟩, e1, hq⟩ := bnd hq
    obtain ⟨g1, l1, _⟩ := (i_name σ).sz g _ e1
    obtain ⟨⟨a, σ2⟩, e2, hq⟩ := bnd hq
    obtain ⟨g2, l2, _⟩ := (i_take "as" σ1).sz g1 _ e2
    obtain ⟨⟨nm, σ3⟩, e3, hq⟩ := bnd hq
    have hi : Iz src σ2 (if (a || tkK (psT σ2) == 2) = true then pName sx src σ2 else .ok (t, σ2)) := Iz.ite (fun _ => i_name σ2) fun _ => Iz.ok
    obtain ⟨g3, l3, _⟩ := hi.sz g2 _ e3
    cases j with
    | false =>
      cases hq
      exact ⟨g3, (l1.tr l2).tr l3, fun r hr => (by cases hr), hk⟩
    | true =>
      obtain ⟨⟨_, σ4⟩, e4, hq⟩ := bnd hq
      obtain ⟨g4, l4, _⟩ := (i_need "on" σ3).sz g3 _ e4
      obtain ⟨⟨x, σ5⟩, e5, hq⟩ := bnd hq
      obtain ⟨g5, l5, r5⟩ := s_expr σ4 g4 _ e5
      cases hq
      exact ⟨g5, (((l1.tr l2).tr l3).tr l4).tr l5, fun r hr => by cases hr; exact r5, hk⟩
theorem s_sources : ∀ n l σ, (∀ s ∈ l, SrcOk (psA σ) s) → l.length ≤ 3 → Sz src σ (pSources sx src n l σ) fun l' τ => (∀ s ∈ l', SrcOk (psA τ) s) ∧ l'.length ≤ 3
  | 0, l, σ, _, _ => fun _ q hq => by cases hq
  | n + 1, l, σ, hl, hm => by
    intro g q hq
    unfold pSources at hq
    split at hq
    · obtain ⟨⟨_, σ1⟩, e1, hq⟩ := bnd hq
      obtain ⟨g1, l1, _⟩ := (i_next σ).sz g _ e1
      obtain ⟨⟨s, σ2⟩, e2, hq⟩ := bnd hq
      obtain ⟨g2, l2, r2, h3⟩ := s_source l.length false false σ1 g1 _ e2
      obtain ⟨g3, l3, p3⟩ := s_sources n (l ++ [s]) σ2 (fun d hd => by
        rcases List.mem_append.mp hd with e | e
        · exact RtO.le (hl d e) g (l1.tr l2)
        · rw [List.mem_singleton.mp e]; exact r2) (by simp; omega) g2 q hq
      exact ⟨g3, (l1.tr l2).tr l3, p3⟩
    · split at hq
      · obtain ⟨⟨lf, σ1⟩, e1, hq⟩ := bnd hq
        obtain ⟨g1, l1, _⟩ := (i_take "left" σ).sz g _ e1
        obtain ⟨⟨_, σ1b⟩, e1b, hq⟩ := bnd hq
        obtain ⟨g1b, l1b, _⟩ := (i_need "join" σ1).sz g1 _ e1b
        obtain ⟨⟨s, σ2⟩, e2, hq⟩ := bnd hq
        obtain ⟨g2, l2, r2, h3⟩ := s_source l.length true lf σ1b g1b _ e2
        obtain ⟨g3, l3, p3⟩ := s_sources n (l ++ [s]) σ2 (fun d hd => by
          rcases List.mem_append.mp hd with e | e
          · exact RtO.le (hl d e) g ((l1.tr l1b).tr l2)
          · rw [List.mem_singleton.mp e]; exact r2) (by simp; omega) g2 q hq
        exact ⟨g3, ((l1.tr l1b).tr l2).tr l3, p3⟩
      · cases hq
        exact ⟨g, Le.rf _, hl, hm⟩
theorem s_from (σ : PS) : Sz src σ (pFrom sx src σ) fun l τ => (∀ s ∈ l, SrcOk (psA τ) s) ∧ l.length ≤ 3 := by
  intro g q hq
  unfold pFrom at hq
  obtain ⟨⟨b, σ1⟩, e1, hq⟩ := bnd hq
  obtain ⟨g1, l1, _⟩ := (i_take "from" σ).sz g _ e1
  cases b with
  | false =>
    cases hq
    exact ⟨g1, l1, fun s h => (by cases h), by simp⟩
  | true =>
    obtain ⟨⟨s, σ2⟩, e2, hq⟩ := bnd hq
    obtain ⟨g2, l2, r2, h3⟩ := s_source 0 false false σ1 g1 _ e2
    obtain ⟨g3, l3, p3⟩ := s_sources 5 [s] σ2 (fun d hd => by rw [List.mem_singleton.mp hd]; exact r2) (by simp) g2 q hq
    exact ⟨g3, (l1.tr l2).tr l3, p3⟩
theorem s_groups (σ : PS) : Sz src σ (pGroups sx src σ) fun l τ => Rts (psA τ) l ∧ l.length ≤ 8 := by
  intro g q hq
  unfold pGroups at hq
  obtain ⟨⟨b, σ1⟩, e1, hq⟩ := bnd hq
  obtain ⟨g1, l1, _⟩ := (i_take "group" σ).sz g _ e1
  cases b with
  | false =>
    cases hq
    exact ⟨g1, l1, fun s h => (by cases h), by simp⟩
  | true =>
    obtain ⟨⟨_, σ2⟩, e2, hq⟩ := bnd hq
    obtain ⟨g2, l2, _⟩ := (i_need "by" σ1).sz g1 _ e2
    obtain ⟨g3, l3, p3⟩ := s_list 8 9 [] σ2 (fun _ h => by cases h) (by simp) g2 q hq
    exact ⟨g3, (l1.tr l2).tr l3, p3.1, p3.2.2⟩
theorem s_ordL : ∀ n l σ, (∀ o ∈ l, Rt (psA σ) o.1) → l.length ≤ 8 → Sz src σ (pOrdL sx src n l σ) fun l' τ => (∀ o ∈ l', Rt (psA τ) o.1) ∧ l'.length ≤ 8
  | 0, l, σ, _, _ => fun _ q hq => by cases hq
  | n + 1, l, σ, hl, hm => by
    intro g q hq
    unfold pOrdL at hq
    split at hq
    · cases hq
    · rename_i hm'
      have hm' : l.length ≠ 8 := by simpa using hm'
      obtain ⟨⟨x, σ1⟩, e1, hq⟩ := bnd hq
      obtain ⟨g1, l1, r1⟩ := s_expr σ g _ e1
      obtain ⟨⟨_, σ2⟩, e2, hq⟩ := bnd hq
      have hi : Iz src σ1 (if (pIs σ1 "desc" || pIs σ1 "asc") = true then pNext sx src σ1 else .ok ((), σ1)) := Iz.ite (fun _ => i_next σ1) fun _ => Iz.ok
      obtain ⟨g2, l2, _⟩ := hi.sz g1 _ e2
      obtain ⟨⟨b, σ3⟩, e3, hq⟩ := bnd hq
      obtain ⟨g3, l3, _⟩ := (i_take "," σ2).sz g2 _ e3
      have hc : ∀ d ∈ l ++ [(x, pIs σ1 "desc")], Rt (psA σ3) d.1 := fun d hd => by
        rcases List.mem_append.mp hd with e | e
        · exact (hl d e).le g ((l1.tr l2).tr l3)
        · rw [List.mem_singleton.mp e]; exact r1.le g1 (l2.tr l3)
      cases b with
      | false =>
        cases hq
        exact ⟨g3, (l1.tr l2).tr l3, hc, by simp; omega⟩
      | true =>
        obtain ⟨g4, l4, p4⟩ := s_ordL n _ σ3 hc (by simp; omega) g3 q hq
        exact ⟨g4, ((l1.tr l2).tr l3).tr l4, p4⟩
theorem s_orders (σ : PS) : Sz src σ (pOrders sx src σ) fun l τ => (∀ o ∈ l, Rt (psA τ) o.1) ∧ l.length ≤ 8 := by
  intro g q hq
  unfold pOrders at hq
  obtain ⟨⟨b, σ1⟩, e1, hq⟩ := bnd hq
  obtain ⟨g1, l1, _⟩ := (i_take "order" σ).sz g _ e1
  cases b with
  | false =>
    cases hq
    exact ⟨g1, l1, fun s h => (by cases h), by simp⟩
  | true =>
    obtain ⟨⟨_, σ2⟩, e2, hq⟩ := bnd hq
    obtain ⟨g2, l2, _⟩ := (i_need "by" σ1).sz g1 _ e2
    obtain ⟨g3, l3, p3⟩ := s_ordL 9 [] σ2 (fun _ h => by cases h) (by simp) g2 q hq
    exact ⟨g3, (l1.tr l2).tr l3, p3⟩
theorem s_int (s : String) (σ : PS) : Sz src σ (pInt sx src s σ) fun o _ => ∀ n, o = some n → 0 ≤ n ∧ n ≤ sMost := by
  intro g q hq
  unfold pInt at hq
  obtain ⟨⟨b, σ1⟩, e1, hq⟩ := bnd hq
  obtain ⟨g1, l1, _⟩ := (i_take s σ).sz g _ e1
  cases b with
  | false =>
    cases hq
    exact ⟨g1, l1, fun n h => by cases h⟩
  | true =>
    dsimp only at hq
    rw [if_pos rfl] at hq
    split at hq
    · rename_i hk
      obtain ⟨⟨_, σ2⟩, e2, hq⟩ := bnd hq
      obtain ⟨g2, l2, _⟩ := (i_next σ1).sz g1 _ e2
      cases hq
      obtain ⟨p, hp⟩ := g1.1.1
      have := (tok_vals src p).1
      rw [← hp] at this
      exact ⟨g2, l1.tr l2, fun n h => by cases h; exact this (by simpa using hk)⟩
    · cases hq
def SelOk (A : List Nod) (q : Sel) : Prop :=
  (∀ i ∈ slI q, ItmOk A i) ∧ (slI q).length ≤ 12 ∧ (∀ s ∈ slF q, SrcOk A s) ∧ (slF q).length ≤ 3 ∧ Rts A (slG q) ∧ (slG q).length ≤ 8 ∧ RtO A (slH q) ∧ (∀ o ∈ slO q, Rt A o.1) ∧ (slO q).length ≤ 8 ∧ (∀ n, slL q = some n → 0 ≤ n ∧ n ≤ sMost) ∧ 0 ≤ slX q ∧ slX q ≤ sMost
def StmOk (s : Stm) : Prop :=
  NOK (smA s) ∧ smP s ≤ 8 ∧ smK s ≤ 8 ∧ (∀ c ∈ smC s, ColOk c) ∧ (smC s).length ≤ 10 ∧ (smN s).length ≤ 10 ∧ (smR s).length ≤ 20 ∧ (∀ r ∈ smR s, Rts (smA s) r ∧ 1 ≤ r.length ∧ r.length ≤ 10) ∧ RtO (smA s) (smW s) ∧ SelOk (smA s) (smS s) ∧
  (smK s = 0 → 1 ≤ (smC s).length) ∧ (smK s = 3 → ∃ v, smR s = [v] ∧ v.length = (smN s).length) ∧ (smK s = 8 → 1 ≤ (slI (smS s)).length)
theorem SelOk.none {A : List Nod} : SelOk A selNone := by
  refine ⟨fun i h => (by cases h), Nat.zero_le _, fun i h => (by cases h), Nat.zero_le _, fun i h => (by cases h), Nat.zero_le _, fun i h => (by cases h), fun i h => (by cases h), Nat.zero_le _, fun n h => (by cases h), by decide, by decide⟩
theorem s_select (σ : PS) : Sz src σ (pSelect sx src σ) fun s τ => StmOk s := by
  intro g q hq
  unfold pSelect at hq
  obtain ⟨⟨ds, σ1⟩, e1, hq⟩ := bnd hq
  obtain ⟨g1, l1, _⟩ := (i_take "distinct" σ).sz g _ e1
  obtain ⟨⟨is, σ2⟩, e2, hq⟩ := bnd hq
  obtain ⟨g2, l2, p2⟩ := s_items 13 [] σ1 (fun i h => by cases h) (by simp) g1 _ e2
  obtain ⟨⟨fs, σ3⟩, e3, hq⟩ := bnd hq
  obtain ⟨g3, l3, p3⟩ := s_from σ2 g2 _ e3
  obtain ⟨⟨wh, σ4⟩, e4, hq⟩ := bnd hq
  obtain ⟨g4, l4, p4⟩ := s_where "where" σ3 g3 _ e4
  obtain ⟨⟨gs, σ5⟩, e5, hq⟩ := bnd hq
  obtain ⟨g5, l5, p5⟩ := s_groups σ4 g4 _ e5
  obtain ⟨⟨hv, σ6⟩, e6, hq⟩ := bnd hq
  obtain ⟨g6, l6, p6⟩ := s_where "having" σ5 g5 _ e6
  obtain ⟨⟨os, σ7⟩, e7, hq⟩ := bnd hq
  obtain ⟨g7, l7, p7⟩ := s_orders σ6 g6 _ e7
  obtain ⟨⟨li, σ8⟩, e8, hq⟩ := bnd hq
  obtain ⟨g8, l8, p8⟩ := s_int "limit" σ7 g7 _ e8
  obtain ⟨⟨of, σ9⟩, e9, hq⟩ := bnd hq
  obtain ⟨g9, l9, p9⟩ := s_int "offset" σ8 g8 _ e9
  cases hq
  have m89 := l9
  have m79 := l8.tr m89
  have m69 := l7.tr m79
  have m59 := l6.tr m69
  have m49 := l5.tr m59
  have m39 := l4.tr m49
  have m29 := l3.tr m39
  refine ⟨g9, (l1.tr l2).tr m29, g9.1.2.1, g9.2.2.2, Nat.le_refl _, fun c h => (by cases h), Nat.zero_le _, Nat.zero_le _, Nat.zero_le _, fun r h => (by cases h), p4.le g4 m49, ⟨fun i hi => (p2.1 i hi).le g2 m29, p2.2.2, fun s hs => RtO.le (p3.1 s hs) g3 m39, p3.2, p5.1.le g5 m59, p5.2, p6.le g6 m69, fun o ho => (p7.1 o ho).le g7 m79, p7.2, p8, ?_⟩, fun h => (by cases h), fun h => (by cases h), fun _ => p2.2.1⟩
  show 0 ≤ of.getD 0 ∧ of.getD 0 ≤ sMost
  cases of with
  | none => exact ⟨by decide, by decide⟩
  | some n => exact p9 n rfl
theorem s_stm0 (σ : PS) : Sz src σ (pStm0 sx src σ) fun s τ => StmOk s := by
  intro g q hq
  unfold pStm0 at hq
  split at hq
  · obtain ⟨⟨_, σ1⟩, e1, hq⟩ := bnd hq
    obtain ⟨g1, l1, _⟩ := (i_next σ).sz g _ e1
    obtain ⟨⟨_, σ2⟩, e2, hq⟩ := bnd hq
    obtain ⟨g2, l2, _⟩ := (i_need "table" σ1).sz g1 _ e2
    obtain ⟨⟨t, σ3⟩, e3, hq⟩ := bnd hq
    obtain ⟨g3, l3, _⟩ := (i_name σ2).sz g2 _ e3
    obtain ⟨⟨_, σ4⟩, e4, hq⟩ := bnd hq
    obtain ⟨g4, l4, _⟩ := (i_need "(" σ3).sz g3 _ e4
    obtain ⟨⟨cs, σ5⟩, e5, hq⟩ := bnd hq
    obtain ⟨g5, l5, p5⟩ := s_cols 11 [] σ4 (fun i h => by cases h) (by simp) g4 _ e5
    obtain ⟨⟨_, σ6⟩, e6, hq⟩ := bnd hq
    obtain ⟨g6, l6, _⟩ := (i_need ")" σ5).sz g5 _ e6
    cases hq
    exact ⟨g6, ((((l1.tr l2).tr l3).tr l4).tr l5).tr l6, g6.1.2.1, g6.2.2.2, Nat.zero_le _, p5.1, p5.2.2, Nat.zero_le _, Nat.zero_le _, fun r h => (by cases h), fun r h => (by cases h), SelOk.none, fun _ => p5.2.1, fun h => (by cases h), fun h => (by cases h)⟩
  split at hq
  · obtain ⟨⟨_, σ1⟩, e1, hq⟩ := bnd hq
    obtain ⟨g1, l1, _⟩ := (i_next σ).sz g _ e1
    obtain ⟨⟨_, σ2⟩, e2, hq⟩ := bnd hq
    obtain ⟨g2, l2, _⟩ := (i_need "table" σ1).sz g1 _ e2
    obtain ⟨⟨t, σ3⟩, e3, hq⟩ := bnd hq
    obtain ⟨g3, l3, _⟩ := (i_name σ2).sz g2 _ e3
    cases hq
    exact ⟨g3, (l1.tr l2).tr l3, g3.1.2.1, g3.2.2.2, by show 1 ≤ 8; omega, fun c h => (by cases h), Nat.zero_le _, Nat.zero_le _, Nat.zero_le _, fun r h => (by cases h), fun r h => (by cases h), SelOk.none, fun h => (by cases h), fun h => (by cases h), fun h => (by cases h)⟩
  split at hq
  · obtain ⟨⟨_, σ1⟩, e1, hq⟩ := bnd hq
    obtain ⟨g1, l1, _⟩ := (i_next σ).sz g _ e1
    obtain ⟨⟨_, σ2⟩, e2, hq⟩ := bnd hq
    obtain ⟨g2, l2, _⟩ := (i_need "into" σ1).sz g1 _ e2
    obtain ⟨⟨t, σ3⟩, e3, hq⟩ := bnd hq
    obtain ⟨g3, l3, _⟩ := (i_name σ2).sz g2 _ e3
    obtain ⟨⟨b, σ4⟩, e4, hq⟩ := bnd hq
    obtain ⟨g4, l4, _⟩ := (i_take "(" σ3).sz g3 _ e4
    obtain ⟨⟨ns, σ5⟩, e5, hq⟩ := bnd hq
    have h5 : G0 src σ5 ∧ Le σ4 σ5 ∧ ns.length ≤ 10 := by
      cases b with
      | false =>
        cases e5
        exact ⟨g4, Le.rf _, by simp⟩
      | true =>
        obtain ⟨⟨l, σ5a⟩, ea, e5⟩ := bnd e5
        obtain ⟨ga, la, pa⟩ := s_names 11 [] σ4 (by simp) g4 _ ea
        obtain ⟨⟨_, σ5b⟩, eb, e5⟩ := bnd e5
        obtain ⟨gb, lb, _⟩ := (i_need ")" σ5a).sz ga _ eb
        cases e5
        exact ⟨gb, la.tr lb, pa.2⟩
    obtain ⟨g5, l5, n5⟩ := h5
    obtain ⟨⟨_, σ6⟩, e6, hq⟩ := bnd hq
    obtain ⟨g6, l6, _⟩ := (i_need "values" σ5).sz g5 _ e6
    obtain ⟨⟨rs, σ7⟩, e7, hq⟩ := bnd hq
    obtain ⟨g7, l7, p7⟩ := s_rows 21 [] σ6 (fun i h => by cases h) (by simp) g6 _ e7
    cases hq
    exact ⟨g7, (((((l1.tr l2).tr l3).tr l4).tr l5).tr l6).tr l7, g7.1.2.1, g7.2.2.2, by show 2 ≤ 8; omega, fun c h => (by cases h), Nat.zero_le _, n5, p7.2.2, p7.1, fun r h => (by cases h), SelOk.none, fun h => (by cases h), fun h => (by cases h), fun h => (by cases h)⟩
  split at hq
  · obtain ⟨⟨_, σ1⟩, e1, hq⟩ := bnd hq
    obtain ⟨g1, l1, _⟩ := (i_next σ).sz g _ e1
    obtain ⟨⟨t, σ2⟩, e2, hq⟩ := bnd hq
    obtain ⟨g2, l2, _⟩ := (i_name σ1).sz g1 _ e2
    obtain ⟨⟨_, σ3⟩, e3, hq⟩ := bnd hq
    obtain ⟨g3, l3, _⟩ := (i_need "set" σ2).sz g2 _ e3
    obtain ⟨⟨w, σ4⟩, e4, hq⟩ := bnd hq
    obtain ⟨g4, l4, p4⟩ := s_sets 11 [] [] σ3 rfl (fun i h => by cases h) (by simp) g3 _ e4
    obtain ⟨⟨wh, σ5⟩, e5, hq⟩ := bnd hq
    obtain ⟨g5, l5, p5⟩ := s_where "where" σ4 g4 _ e5
    cases hq
    obtain ⟨p41, p42, p43, p44⟩ := p4
    dsimp only at p41 p42 p43 p44
    exact ⟨g5, (((l1.tr l2).tr l3).tr l4).tr l5, g5.1.2.1, g5.2.2.2, by show 3 ≤ 8; omega, fun c h => (by cases h), Nat.zero_le _, p44, by show [w.2].length ≤ 20; simp, fun r h => (by rw [List.mem_singleton.mp h]; exact ⟨p42.le g4 l5, by omega, by omega⟩), p5, SelOk.none, fun h => (by cases h), fun _ => ⟨w.2, rfl, p41.symm⟩, fun h => (by cases h)⟩
  split at hq
  · obtain ⟨⟨_, σ1⟩, e1, hq⟩ := bnd hq
    obtain ⟨g1, l1, _⟩ := (i_next σ).sz g _ e1
    obtain ⟨⟨_, σ2⟩, e2, hq⟩ := bnd hq
    obtain ⟨g2, l2, _⟩ := (i_need "from" σ1).sz g1 _ e2
    obtain ⟨⟨t, σ3⟩, e3, hq⟩ := bnd hq
    obtain ⟨g3, l3, _⟩ := (i_name σ2).sz g2 _ e3
    obtain ⟨⟨wh, σ5⟩, e5, hq⟩ := bnd hq
    obtain ⟨g5, l5, p5⟩ := s_where "where" σ3 g3 _ e5
    cases hq
    exact ⟨g5, ((l1.tr l2).tr l3).tr l5, g5.1.2.1, g5.2.2.2, by show 4 ≤ 8; omega, fun c h => (by cases h), Nat.zero_le _, Nat.zero_le _, Nat.zero_le _, fun r h => (by cases h), p5, SelOk.none, fun h => (by cases h), fun h => (by cases h), fun h => (by cases h)⟩
  split at hq
  · obtain ⟨⟨_, σ1⟩, e1, hq⟩ := bnd hq
    obtain ⟨g1, l1, _⟩ := (i_next σ).sz g _ e1
    cases hq
    have hk : (if pIs σ "begin" = true then 5 else if pIs σ "commit" = true then 6 else 7) ≤ 8 ∧ 5 ≤ (if pIs σ "begin" = true then 5 else if pIs σ "commit" = true then 6 else 7) ∧ (if pIs σ "begin" = true then 5 else if pIs σ "commit" = true then 6 else 7) ≤ 7 := by
      split
      · omega
      · split <;> omega
    have k0 : ∀ z : Nat, (if pIs σ "begin" = true then 5 else if pIs σ "commit" = true then 6 else 7) = z → 5 ≤ z ∧ z ≤ 7 := fun z e => by rw [← e]; exact hk.2
    refine ⟨g1, l1, g1.1.2.1, g1.2.2.2, hk.1, fun c h => (by cases h), Nat.zero_le _, Nat.zero_le _, Nat.zero_le _, fun r h => (by cases h), fun r h => (by cases h), SelOk.none, fun h => ?_, fun h => ?_, fun h => ?_⟩
    · have := k0 0 h; omega
    · have := k0 3 h; omega
    · have := k0 8 h; omega
  · obtain ⟨⟨_, σ1⟩, e1, hq⟩ := bnd hq
    obtain ⟨g1, l1, _⟩ := (i_need "select" σ).sz g _ e1
    obtain ⟨g2, l2, p2⟩ := s_select σ1 g1 q hq
    exact ⟨g2, l1.tr l2, p2⟩
/-- a state between statements -/
def G1 (src : Str) (σ : PS) : Prop := WT src σ ∧ psP σ ≤ 8
theorem s_stm {σ : PS} (h : G1 src σ) {q : Stm × PS} (hq : pStm sx src σ = .ok q) : G1 src q.2 ∧ StmOk q.1 ∧ psP σ ≤ psP q.2 := by
  unfold pStm at hq
  obtain ⟨⟨s, σ1⟩, e1, hq⟩ := bnd hq
  have g0 : G0 src (psT σ, 0, 0, psP σ, []) := ⟨⟨h.1, fun j hj => (by cases hj), Nat.zero_le _⟩, rfl, Nat.zero_le _, h.2⟩
  obtain ⟨g1, l1, p1⟩ := s_stm0 _ g0 _ e1
  dsimp only at hq
  split at hq
  · cases hq
    exact ⟨⟨g1.1.1, g1.2.2.2⟩, p1, l1.2.2.2.1⟩
  · cases hq
theorem s_parts : ∀ n (σ : PS), G1 src σ → ∀ q, pParts sx src n σ = .ok q → G1 src q.2 ∧ psP q.2 = psP σ
  | 0, σ, _, q, hq => by cases hq
  | n + 1, σ, h, q, hq => by
    unfold pParts at hq
    split at hq
    · obtain ⟨⟨_, σ1⟩, e1, hq⟩ := bnd hq
      have e2 := n_next e1
      dsimp only at e2
      have hw : WT src σ1 := by
        unfold pNext at e1
        dsimp only at e1
        split at e1
        · cases e1
        · cases e1; exact ⟨_, rfl⟩
      have hp : psP σ1 = psP σ := by rw [e2]; rfl
      obtain ⟨a, b⟩ := s_parts n σ1 ⟨hw, by rw [hp]; exact h.2⟩ q hq
      exact ⟨a, by rw [b, hp]⟩
    · cases hq
      exact ⟨h, rfl⟩
end
