/-! what a parser's state keeps, and what its nodes are like -/
def ndL (n : Nod) : Nat := n.2.2.2.2.2.2
def nat_ (A : List Nod) (i : Nat) : Nod := A.getD i nNone
/-- parts stand one behind the other between lo and hi -/
def Til (A : List Nod) : Nat → List Nat → Nat → Prop
  | lo, [], hi => lo ≤ hi
  | lo, p :: l, hi => lo ≤ ndL (nat_ A p) ∧ ndL (nat_ A p) ≤ p ∧ Til A (p + 1) l hi
/-- values of literals -/
def LitV (v : Val) : Prop := v = vNull ∨ (∃ b, v = vBool b) ∨ (∃ n : Int64, v = vNum n ∧ 0 ≤ n ∧ n ≤ sMost) ∨ ∃ s, v = vTxt s ∧ s.length ≤ 40 ∧ ∀ c ∈ s, 32 ≤ c ∧ c ≤ 126
def Shp (n : Nod) : Prop :=
  (ndO n = 0 ∧ ndK n = 0 ∧ ndP n = [] ∧ LitV (ndV n)) ∨ (ndO n = 1 ∧ ndP n = [] ∧ ndK n < 8) ∨ (ndO n = 2 ∧ ndK n = 0 ∧ ndP n = []) ∨ (ndO n = 3 ∧ (ndP n).length ≤ 8 ∧ (ndK n = 0 ∨ (ndK n = 1 ∧ ndP n = []))) ∨
  (ndO n = 4 ∧ ndK n ≤ 1 ∧ ∃ w, 1 ≤ w ∧ w ≤ 19 ∧ (ndP n).length = 2 * w + ndK n) ∨ (ndO n = 5 ∧ ndK n = 0 ∧ 2 ≤ (ndP n).length ∧ (ndP n).length ≤ 9) ∨ (ndO n = 6 ∧ ndK n = 0 ∧ (ndP n).length = 2) ∨
  (ndO n = 7 ∧ ndK n = 0 ∧ (ndP n).length = 3) ∨ (ndO n = 8 ∧ ndK n ≤ 1 ∧ (ndP n).length = 1) ∨ (ndO n = 9 ∧ ndK n ≤ 5 ∧ (ndP n).length = 2) ∨ ((ndO n = 10 ∨ ndO n = 11) ∧ ndK n = 0 ∧ (ndP n).length = 2) ∨
  ((ndO n = 12 ∨ ndO n = 13) ∧ ndK n = 0 ∧ (ndP n).length = 1) ∨ (ndO n = 14 ∧ ndK n ≤ 5 ∧ (ndP n).length = 2)
def NodOk (A : List Nod) (j : Nat) : Prop := ndL (nat_ A j) ≤ j ∧ Til A (ndL (nat_ A j)) (ndP (nat_ A j)) j ∧ Shp (nat_ A j) ∧ (ndS (nat_ A j)).length ≤ 20
def NOK (A : List Nod) : Prop := ∀ j, j < A.length → NodOk A j
/-- the tree of i is at most n high -/
def HB (A : List Nod) : Nat → Nat → Prop
  | 0, _ => False
  | n + 1, i => ∀ p ∈ ndP (nat_ A i), HB A n p
theorem HB.mono {A : List Nod} : ∀ {n m i : Nat}, HB A n i → n ≤ m → HB A m i
  | 0, _, _, h, _ => h.elim
  | n + 1, 0, _, _, h => absurd h (by omega)
  | n + 1, m + 1, i, h, hm => fun p hp => HB.mono (h p hp) (by omega)
theorem nat_ext {A B : List Nod} {i : Nat} (h : i < A.length) : nat_ (A ++ B) i = nat_ A i := by
  unfold nat_
  rw [List.getD_eq_getElem?_getD, List.getD_eq_getElem?_getD, List.getElem?_append_left h]
theorem nat_last {A : List Nod} {n : Nod} : nat_ (A ++ [n]) A.length = n := by
  unfold nat_
  simp
theorem Til.lt {A : List Nod} : ∀ {l : List Nat} {lo hi : Nat}, Til A lo l hi → lo ≤ hi ∧ ∀ p ∈ l, p < hi ∧ lo ≤ ndL (nat_ A p) ∧ ndL (nat_ A p) ≤ p
  | [], lo, hi, h => ⟨h, fun _ hp => by cases hp⟩
  | q :: l, lo, hi, h => by
    obtain ⟨a, b, c⟩ := h
    have ⟨c1, c2⟩ := Til.lt c
    refine ⟨by omega, fun p hp => ?_⟩
    rcases List.mem_cons.mp hp with e | e
    · subst e; exact ⟨by omega, a, b⟩
    · have := c2 p e; exact ⟨this.1, by omega, this.2.2⟩
theorem Til.ext {A B : List Nod} : ∀ {l : List Nat} {lo hi : Nat}, Til A lo l hi → hi ≤ A.length → Til (A ++ B) lo l hi
  | [], lo, hi, h, _ => h
  | q :: l, lo, hi, h, hA => by
    obtain ⟨a, b, c⟩ := h
    have := (Til.lt c).1
    exact ⟨by rw [nat_ext (by omega)]; exact a, by rw [nat_ext (by omega)]; exact b, Til.ext c hA⟩
theorem Til.hi {A : List Nod} : ∀ {l : List Nat} {lo hi hi' : Nat}, Til A lo l hi → hi ≤ hi' → Til A lo l hi'
  | [], lo, hi, hi', h, hh => Nat.le_trans (show lo ≤ hi from h) hh
  | q :: l, lo, hi, hi', h, hh => ⟨h.1, h.2.1, Til.hi h.2.2 hh⟩
theorem Til.snoc {A : List Nod} : ∀ {l : List Nat} {lo hi p : Nat}, Til A lo l hi → hi ≤ ndL (nat_ A p) → ndL (nat_ A p) ≤ p → Til A lo (l ++ [p]) (p + 1)
  | [], lo, hi, p, h, h1, h2 => ⟨Nat.le_trans (show lo ≤ hi from h) h1, h2, Nat.le_refl _⟩
  | q :: l, lo, hi, p, h, h1, h2 => ⟨h.1, h.2.1, Til.snoc h.2.2 h1 h2⟩
theorem NodOk.ext {A B : List Nod} {j : Nat} (h : NodOk A j) (hj : j < A.length) : NodOk (A ++ B) j := by
  unfold NodOk
  rw [nat_ext hj]
  exact ⟨h.1, h.2.1.ext (by omega), h.2.2⟩
theorem HB.ext {A B : List Nod} (hA : NOK A) : ∀ {n i : Nat}, HB A n i → i < A.length → HB (A ++ B) n i
  | 0, _, h, _ => h.elim
  | n + 1, i, h, hi => by
    intro p hp
    rw [nat_ext hi] at hp
    have := (Til.lt (hA i hi).2.1).2 p hp
    exact HB.ext hA (h p hp) (by omega)
/-- the sign at hand is one of the text -/
def WT (src : Str) (σ : PS) : Prop := ∃ p, psT σ = sTok src p
def Gd (src : Str) (σ : PS) : Prop := WT src σ ∧ NOK (psA σ) ∧ psO σ ≤ 30
def Le (σ τ : PS) : Prop := psO τ = psO σ ∧ psN σ ≤ psN τ ∧ (psN σ ≤ 300 → psN τ ≤ 300) ∧ psP σ ≤ psP τ ∧ (psP σ ≤ 8 → psP τ ≤ 8) ∧ (∃ B, psA τ = psA σ ++ B)
theorem Le.rf (σ : PS) : Le σ σ := ⟨rfl, Nat.le_refl _, fun h => h, Nat.le_refl _, fun h => h, [], (List.append_nil _).symm⟩
theorem Le.tr {a b c : PS} (h1 : Le a b) (h2 : Le b c) : Le a c := by
  obtain ⟨a1, a2, a3, a4, a5, B, a6⟩ := h1
  obtain ⟨b1, b2, b3, b4, b5, C, b6⟩ := h2
  exact ⟨b1.trans a1, by omega, fun h => b3 (a3 h), by omega, fun h => b5 (a5 h), B ++ C, by rw [b6, a6, List.append_assoc]⟩
theorem Le.len {a b : PS} (h : Le a b) : (psA a).length ≤ (psA b).length := by
  obtain ⟨_, _, _, _, _, B, e⟩ := h
  rw [e, List.length_append]; omega
theorem Le.nat {a b : PS} (h : Le a b) {i : Nat} (hi : i < (psA a).length) : nat_ (psA b) i = nat_ (psA a) i := by
  obtain ⟨_, _, _, _, _, B, e⟩ := h
  rw [e]; exact nat_ext hi
theorem Le.til {a b : PS} (h : Le a b) {l : List Nat} {lo hi : Nat} (ht : Til (psA a) lo l hi) (hh : hi ≤ (psA a).length) : Til (psA b) lo l hi := by
  obtain ⟨_, _, _, _, _, B, e⟩ := h
  rw [e]; exact ht.ext hh
theorem Le.hb {src : Str} {a b : PS} (h : Le a b) (g : Gd src a) {n i : Nat} (hb : HB (psA a) n i) (hi : i < (psA a).length) : HB (psA b) n i := by
  obtain ⟨_, _, _, _, _, B, e⟩ := h
  rw [e]; exact hb.ext g.2.1 hi
/-- a step keeps what there is -/
def Iz {α : Type} (src : Str) (σ : PS) (x : Except Nat (α × PS)) : Prop := Gd src σ → ∀ q, x = .ok q → Gd src q.2 ∧ Le σ q.2
theorem Iz.bind {α β : Type} {src : Str} {σ : PS} {x : Except Nat (α × PS)} {g : α × PS → Except Nat (β × PS)} (h : Iz src σ x) (h1 : ∀ q, Iz src q.2 (g q)) : Iz src σ (x >>= g) := by
  intro hg q hq
  cases x with
  | error e => cases hq
  | ok r =>
    obtain ⟨g1, l1⟩ := h hg r rfl
    obtain ⟨g2, l2⟩ := h1 r g1 q hq
    exact ⟨g2, l1.tr l2⟩
theorem Iz.ok {α : Type} {src : Str} {σ : PS} {a : α} : Iz src σ (.ok (a, σ)) := by
  intro hg q hq
  cases hq
  exact ⟨hg, Le.rf _⟩
theorem Iz.br {α : Type} {src : Str} {σ τ : PS} : Iz (α := α) src σ (pBroken τ) := by
  intro hg q hq
  cases hq
theorem Iz.ite {α : Type} {src : Str} {σ : PS} {c : Bool} {x y : Except Nat (α × PS)} (h1 : c = true → Iz src σ x) (h2 : c = false → Iz src σ y) : Iz src σ (if c = true then x else y) := by
  cases c
  · exact h2 rfl
  · exact h1 rfl
theorem Iz.map {α β : Type} {src : Str} {σ : PS} {x : Except Nat (α × PS)} {f : α × PS → β × PS} (h : Iz src σ x) (hf : ∀ q, (f q).2 = q.2) : Iz src σ (x.map f) := by
  intro hg q hq
  cases x with
  | error e => cases hq
  | ok r =>
    cases hq
    rw [hf r]
    exact h hg r rfl
section
variable {sx : Bool} {src : Str}
theorem i_next (σ : PS) : Iz src σ (pNext sx src σ) := by
  intro hg q hq
  unfold pNext at hq
  dsimp only at hq
  split at hq
  · cases hq
  · cases hq
    exact ⟨⟨⟨_, rfl⟩, hg.2⟩, Le.rf _⟩
theorem i_take (s : String) (σ : PS) : Iz src σ (pTake sx src s σ) := Iz.ite (fun _ => (i_next σ).map fun _ => rfl) fun _ => Iz.ok
theorem i_need (s : String) (σ : PS) : Iz src σ (pNeed sx src s σ) := Iz.ite (fun _ => i_next σ) fun _ => Iz.br
theorem i_name (σ : PS) : Iz src σ (pName sx src σ) := Iz.ite (fun _ => (i_next σ).map fun _ => rfl) fun _ => Iz.br
/-- an operator -/
theorem i_oper {σ : PS} (hg : Gd src σ) {q : Unit × PS} (hq : pOper sx src σ = .ok q) : Gd src q.2 ∧ Le σ q.2 ∧ psN q.2 = psN σ + 1 ∧ psA q.2 = psA σ := by
  unfold pOper pNext at hq
  dsimp only at hq
  split at hq
  · cases hq
  · rename_i h3
    split at hq
    · cases hq
    · cases hq
      refine ⟨⟨⟨_, rfl⟩, hg.2⟩, ⟨rfl, Nat.le_succ _, fun h => ?_, Nat.le_refl _, fun h => h, [], (List.append_nil _).symm⟩, rfl, rfl⟩
      have : psN σ ≠ 300 := by simpa using h3
      show psN σ + 1 ≤ 300
      omega
/-- what an expression is: the last node, whose tree begins at lo, at most K higher than there are operators since N0 -/
def Xq (N0 K lo : Nat) (σ : PS) (i : Nat) : Prop := i + 1 = (psA σ).length ∧ lo ≤ i ∧ ndL (nat_ (psA σ) i) = lo ∧ N0 ≤ psN σ ∧ HB (psA σ) (psN σ - N0 + K) i
def Xz (src : Str) (K : Nat) (σ : PS) (x : Except Nat (Nat × PS)) : Prop := Gd src σ → ∀ q, x = .ok q → Gd src q.2 ∧ Le σ q.2 ∧ Xq (psN σ) K (psA σ).length q.2 q.1
/-- a new node over parts -/
theorem x_node {σ : PS} {N0 K lo : Nat} {o k : Nat} {s : Str} {f : Option Str} {v : Val} {l : List Nat} (hg : Gd src σ) (ht : Til (psA σ) lo l (psA σ).length) (hb : ∀ p ∈ l, HB (psA σ) (psN σ - N0 + K) p) (hN : N0 ≤ psN σ) (hs : Shp (o, k, s, f, v, l, lo)) (hn : s.length ≤ 20 := by exact Nat.zero_le _) :
    Gd src (pNode σ (o, k, s, f, v, l, lo)).2 ∧ Le σ (pNode σ (o, k, s, f, v, l, lo)).2 ∧ Xq N0 (K + 1) lo (pNode σ (o, k, s, f, v, l, lo)).2 (pNode σ (o, k, s, f, v, l, lo)).1 := by
  have hl := ht.lt
  have nl : nat_ (psA σ ++ [((o, k, s, f, v, l, lo) : Nod)]) (psA σ).length = (o, k, s, f, v, l, lo) := nat_last
  refine ⟨⟨hg.1, fun j hj => ?_, hg.2.2⟩, ⟨rfl, Nat.le_refl _, fun h => h, Nat.le_refl _, fun h => h, [_], rfl⟩, ?_, hl.1, ?_, hN, ?_⟩
  · have hj' : j < (psA σ).length + 1 := by simpa [pNode, psA] using hj
    by_cases e : j < (psA σ).length
    · exact (hg.2.1 j e).ext e
    · have : j = (psA σ).length := by omega
      subst this
      show NodOk (psA σ ++ [_]) _
      unfold NodOk
      rw [nl]
      exact ⟨hl.1, ht.ext (Nat.le_refl _), hs, hn⟩
  · show (psA σ).length + 1 = (psA σ ++ [_]).length
    simp
  · show ndL (nat_ (psA σ ++ [_]) (psA σ).length) = lo
    rw [nl]; rfl
  · show HB (psA σ ++ [_]) (psN σ - N0 + (K + 1)) (psA σ).length
    rw [show psN σ - N0 + (K + 1) = (psN σ - N0 + K) + 1 by omega]
    intro p hp
    rw [nl] at hp
    exact (hb p hp).ext hg.2.1 (hl.2 p hp).1
theorem HB.le {A : List Nod} {N0 n m K K' i : Nat} (h : HB A (n - N0 + K) i) (hn : n ≤ m) (hk : K ≤ K') : HB A (m - N0 + K') i := h.mono (by omega)
theorem Xq.til {σ : PS} {N0 K lo i : Nat} (h : Xq N0 K lo σ i) : Til (psA σ) lo [i] (psA σ).length := ⟨by rw [h.2.2.1]; exact Nat.le_refl _, by rw [h.2.2.1]; exact h.2.1, by show i + 1 ≤ _; rw [h.1]; exact Nat.le_refl _⟩
end
