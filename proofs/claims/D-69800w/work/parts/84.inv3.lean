/-! expressions: the layers above the primary ones -/
section
variable {sx : Bool} {src : Str}
theorem n_next {τ : PS} {r : Unit × PS} (h : pNext sx src τ = .ok r) : r.2 = (psT r.2, τ.2) := by
  unfold pNext at h
  dsimp only at h
  split at h
  · cases h
  · cases h; rfl
theorem e_enter {σ : PS} {r : Unit × PS} (h : pEnter σ = .ok r) : r.2 = (psT σ, psO σ + 1, σ.2.2) ∧ psO σ ≠ 30 := by
  unfold pEnter at h
  split at h
  · cases h
  · rename_i h3
    cases h
    exact ⟨rfl, by simpa using h3⟩
theorem Gd.enter {σ : PS} (g : Gd src σ) (h : psO σ ≠ 30) : Gd src (psT σ, psO σ + 1, σ.2.2) := ⟨g.1, g.2.1, by have := g.2.2; show psO σ + 1 ≤ 30; omega⟩
theorem Le.leave {σ τ : PS} (h : Le (psT σ, psO σ + 1, σ.2.2) τ) : Le σ (pLeave τ) := by
  obtain ⟨a1, a2, a3, a4, a5, a6⟩ := h
  exact ⟨by show psO τ - 1 = psO σ; rw [a1]; rfl, a2, a3, a4, a5, a6⟩
theorem Gd.leave {τ : PS} (g : Gd src τ) : Gd src (pLeave τ) := ⟨g.1, g.2.1, by have := g.2.2; show psO τ - 1 ≤ 30; omega⟩
theorem x_pair {σ σ1 σ2 : PS} {N0 K lo x y o k : Nat} (g : Gd src σ) (hx : Xq N0 (K + 1) lo σ x) (g1 : Gd src σ1) (l1 : Le σ σ1) (n1 : psN σ1 = psN σ + 1) (g2 : Gd src σ2) (l2 : Le σ1 σ2) (hy : Xq (psN σ1) (K + 1) (psA σ1).length σ2 y) (hs : Shp (o, k, [], none, vNull, [x, y], lo)) :
    Gd src (pNode σ2 (o, k, [], none, vNull, [x, y], lo)).2 ∧ Le σ (pNode σ2 (o, k, [], none, vNull, [x, y], lo)).2 ∧ Xq N0 (K + 1) lo (pNode σ2 (o, k, [], none, vNull, [x, y], lo)).2 (pNode σ2 (o, k, [], none, vNull, [x, y], lo)).1 := by
  have p2 := ((Pq.one hx).le g l1 (Nat.le_refl _)).snoc g1 l2 hy
  have hN := l2.2.1
  have hN0 := hx.2.2.2.1
  have hxl : x < (psA σ).length := by rw [← hx.1]; omega
  obtain ⟨a, b, c⟩ := x_node (N0 := N0) (K := K) (o := o) (k := k) (s := []) (f := none) (v := vNull) g2 p2.2.1 (fun p hp => by
    rcases List.mem_append.mp hp with e | e
    · rw [List.mem_singleton.mp e]
      exact ((l1.tr l2).hb g hx.2.2.2.2 hxl).mono (by omega)
    · rw [List.mem_singleton.mp e]
      exact hy.2.2.2.2.mono (by omega)) p2.1 hs
  exact ⟨a, (l1.tr l2).tr b, c⟩
variable {rec : PS → Except Nat (Nat × PS)}
theorem x_minus (hr : ∀ σ, Xz src (3 * (30 - psO σ)) σ (rec σ)) : ∀ n σ, Xz src (3 * (30 - psO σ) + 1) σ (pMinus rec sx src n σ)
  | 0, σ => fun _ q hq => by cases hq
  | n + 1, σ => by
    intro hg q hq
    unfold pMinus at hq
    dsimp only at hq
    split at hq
    · exact x_primary (o := psO σ) (fun τ ho => by rw [← ho]; exact hr τ) σ rfl hg q hq
    · obtain ⟨⟨u, σ1⟩, e1, hq⟩ := bnd hq
      obtain ⟨e1, h30⟩ := e_enter e1
      dsimp only at e1
      subst e1
      have g1 := hg.enter h30
      obtain ⟨⟨_, σ2⟩, e2, hq⟩ := bnd hq
      obtain ⟨g2, l2⟩ := i_next _ g1 _ e2
      have n2 := n_next e2
      dsimp only at n2
      obtain ⟨⟨x, σ3⟩, e3, hq⟩ := bnd hq
      obtain ⟨g3, l3, x3⟩ := x_minus hr n σ2 g2 _ e3
      cases hq
      have hA : psA σ2 = psA σ := by rw [n2]; rfl
      have hN : psN σ2 = psN σ := by rw [n2]; rfl
      have hO : psO σ2 = psO σ + 1 := by rw [n2]; rfl
      rw [hA, hN, hO] at x3
      obtain ⟨g4, l4, x4⟩ := p_node (σ := pLeave σ3) (o := 13) (k := 0) (s := []) (f := none) (v := vNull) g3.leave (Pq.one (σ := pLeave σ3) x3) (Or.inr (Or.inr (Or.inr (Or.inr (Or.inr (Or.inr (Or.inr (Or.inr (Or.inr (Or.inr (Or.inr (Or.inl ⟨Or.inr rfl, rfl, rfl⟩))))))))))))
      have := hg.2.2
      exact ⟨g4, (l2.tr l3).leave.tr l4, x4.le (by omega)⟩
theorem x_prods (hr : ∀ σ, Xz src (3 * (30 - psO σ)) σ (rec σ)) (lo N0 : Nat) : ∀ n x σ, Gd src σ → Xq N0 (3 * (30 - psO σ) + 1) lo σ x → ∀ q, pProducts rec sx src lo n x σ = .ok q → Gd src q.2 ∧ Le σ q.2 ∧ Xq N0 (3 * (30 - psO σ) + 1) lo q.2 q.1
  | 0, x, σ, _, _, q, hq => by cases hq
  | n + 1, x, σ, hg, hx, q, hq => by
    unfold pProducts at hq
    split at hq
    · obtain ⟨⟨_, σ1⟩, e1, hq⟩ := bnd hq
      obtain ⟨g1, l1, n1, _⟩ := i_oper hg e1
      obtain ⟨⟨y, σ2⟩, e2, hq⟩ := bnd hq
      obtain ⟨g2, l2, x2⟩ := x_minus hr 31 σ1 g1 _ e2
      rw [l1.1] at x2
      have key := x_pair (o := 14) (k := if pIs σ "*" = true then 2 else if pIs σ "/" = true then 3 else 4) hg hx g1 l1 n1 g2 l2 x2 (by
        refine Or.inr (Or.inr (Or.inr (Or.inr (Or.inr (Or.inr (Or.inr (Or.inr (Or.inr (Or.inr (Or.inr (Or.inr ⟨rfl, ?_, rfl⟩)))))))))))
        show (if pIs σ "*" = true then 2 else if pIs σ "/" = true then 3 else 4) ≤ 5
        split
        · omega
        · split <;> omega)
      obtain ⟨g3, l3, x3⟩ := key
      have hO : psO (pNode σ2 (14, (if pIs σ "*" = true then 2 else if pIs σ "/" = true then 3 else 4), [], none, vNull, [x, y], lo)).2 = psO σ := l3.1
      obtain ⟨g4, l4, x4⟩ := x_prods hr lo N0 n _ _ g3 (by rw [hO]; exact x3) q hq
      rw [hO] at x4
      exact ⟨g4, l3.tr l4, x4⟩
    · cases hq
      exact ⟨hg, Le.rf _, hx⟩
theorem x_term (hr : ∀ σ, Xz src (3 * (30 - psO σ)) σ (rec σ)) (σ : PS) : Xz src (3 * (30 - psO σ) + 1) σ (pTerm rec sx src σ) := by
  intro hg q hq
  unfold pTerm at hq
  obtain ⟨⟨x, σ1⟩, e1, hq⟩ := bnd hq
  obtain ⟨g1, l1, x1⟩ := x_minus hr 31 σ hg _ e1
  obtain ⟨g2, l2, x2⟩ := x_prods hr _ _ 302 x σ1 g1 (by rw [l1.1]; exact x1) q hq
  rw [l1.1] at x2
  exact ⟨g2, l1.tr l2, x2⟩
theorem x_sumsL (hr : ∀ σ, Xz src (3 * (30 - psO σ)) σ (rec σ)) (lo N0 : Nat) : ∀ n x σ, Gd src σ → Xq N0 (3 * (30 - psO σ) + 1) lo σ x → ∀ q, pSumsL rec sx src lo n x σ = .ok q → Gd src q.2 ∧ Le σ q.2 ∧ Xq N0 (3 * (30 - psO σ) + 1) lo q.2 q.1
  | 0, x, σ, _, _, q, hq => by cases hq
  | n + 1, x, σ, hg, hx, q, hq => by
    unfold pSumsL at hq
    split at hq
    · obtain ⟨⟨_, σ1⟩, e1, hq⟩ := bnd hq
      obtain ⟨g1, l1, n1, _⟩ := i_oper hg e1
      obtain ⟨⟨y, σ2⟩, e2, hq⟩ := bnd hq
      obtain ⟨g2, l2, x2⟩ := x_term hr σ1 g1 _ e2
      rw [l1.1] at x2
      have key := x_pair (o := 14) (k := if pIs σ "+" = true then 0 else if pIs σ "-" = true then 1 else 5) hg hx g1 l1 n1 g2 l2 x2 (by
        refine Or.inr (Or.inr (Or.inr (Or.inr (Or.inr (Or.inr (Or.inr (Or.inr (Or.inr (Or.inr (Or.inr (Or.inr ⟨rfl, ?_, rfl⟩)))))))))))
        show (if pIs σ "+" = true then 0 else if pIs σ "-" = true then 1 else 5) ≤ 5
        split
        · omega
        · split <;> omega)
      obtain ⟨g3, l3, x3⟩ := key
      have hO : psO (pNode σ2 (14, (if pIs σ "+" = true then 0 else if pIs σ "-" = true then 1 else 5), [], none, vNull, [x, y], lo)).2 = psO σ := l3.1
      obtain ⟨g4, l4, x4⟩ := x_sumsL hr lo N0 n _ _ g3 (by rw [hO]; exact x3) q hq
      rw [hO] at x4
      exact ⟨g4, l3.tr l4, x4⟩
    · cases hq
      exact ⟨hg, Le.rf _, hx⟩
theorem x_sums (hr : ∀ σ, Xz src (3 * (30 - psO σ)) σ (rec σ)) (σ : PS) : Xz src (3 * (30 - psO σ) + 1) σ (pSums rec sx src σ) := by
  intro hg q hq
  unfold pSums at hq
  obtain ⟨⟨x, σ1⟩, e1, hq⟩ := bnd hq
  obtain ⟨g1, l1, x1⟩ := x_term hr σ hg _ e1
  obtain ⟨g2, l2, x2⟩ := x_sumsL hr _ _ 302 x σ1 g1 (by rw [l1.1]; exact x1) q hq
  rw [l1.1] at x2
  exact ⟨g2, l1.tr l2, x2⟩
/-- an expression x at hand, and signs are passed over: it is still the last -/
theorem Xq.go {N0 K lo x : Nat} {σ τ : PS} (hx : Xq N0 K lo σ x) (e : τ.2 = σ.2) : Xq N0 K lo τ x := by
  have e1 : psA τ = psA σ := by unfold psA; rw [e]
  have e2 : psN τ = psN σ := by unfold psN; rw [e]
  unfold Xq
  rw [e1, e2]; exact hx
theorem n_need {s : String} {τ : PS} {r : Unit × PS} (h : pNeed sx src s τ = .ok r) : r.2.2 = τ.2 := by
  unfold pNeed at h
  split at h
  · rw [n_next h]
  · cases h
theorem n_take {s : String} {τ : PS} {r : Bool × PS} (h : pTake sx src s τ = .ok r) : r.2.2 = τ.2 := by
  unfold pTake at h
  split at h
  · obtain ⟨w, ew, rfl⟩ := mpd h
    rw [n_next ew]
  · cases h; rfl
theorem x_among (hr : ∀ σ, Xz src (3 * (30 - psO σ)) σ (rec σ)) (lo N0 x : Nat) (due : Bool) (σ : PS) (hg : Gd src σ) (hx : Xq N0 (3 * (30 - psO σ) + 1) lo σ x) (q : Nat × PS) (hq : pAmong rec sx src lo x due σ = .ok q) : Gd src q.2 ∧ Le σ q.2 ∧ Xq N0 (3 * (30 - psO σ) + 2) lo q.2 q.1 := by
  unfold pAmong at hq
  split at hq
  · obtain ⟨⟨_, σ1⟩, e1, hq⟩ := bnd hq
    obtain ⟨g1, l1⟩ := i_next σ hg _ e1
    have x1 := hx.go (τ := σ1) (by have := n_next e1; dsimp only at this; rw [this])
    obtain ⟨⟨_, σ2⟩, e2, hq⟩ := bnd hq
    obtain ⟨g2, l2⟩ := i_need "(" σ1 g1 _ e2
    have x2 := x1.go (τ := σ2) (n_need e2)
    have o2 : psO σ2 = psO σ := by rw [l2.1, l1.1]
    obtain ⟨⟨l, σ3⟩, e3, hq⟩ := bnd hq
    obtain ⟨g3, l3, p3, c1, c2⟩ := x_list (o := psO σ) (K := 3 * (30 - psO σ)) (fun τ ho => by rw [← ho]; exact hr τ) 8 9 [] σ2 (psN σ2) (psA σ2).length o2 g2 (Pq.nil (Le.rf _)) (by simp) _ e3
    obtain ⟨⟨_, σ4⟩, e4, hq⟩ := bnd hq
    obtain ⟨g4, l4⟩ := i_need ")" σ3 g3 _ e4
    cases hq
    have px := ((Pq.one x2).le g2 l3 (Nat.le_refl _)).le g3 l4 (Nat.le_refl _)
    have p4 := p3.le g3 l4 (Nat.le_refl _)
    have hN := l3.2.1
    have hN' := l4.2.1
    have hN0 := x2.2.2.2.1
    dsimp only at hN hN' hN0 c1 c2
    obtain ⟨g5, l5, x5⟩ := x_node (N0 := N0) (K := 3 * (30 - psO σ) + 1) (o := 5) (k := 0) (s := []) (f := none) (v := vNull) (l := x :: l) (lo := lo) g4 ⟨px.2.1.1, px.2.1.2.1, by rw [x2.1]; exact p4.2.1⟩ (fun p hp => by
      rcases List.mem_cons.mp hp with e | e
      · exact px.2.2 p (by rw [e]; exact List.mem_singleton.mpr rfl)
      · exact (p4.2.2 p e).mono (by dsimp only; omega)) (show N0 ≤ psN σ4 by omega) (Or.inr (Or.inr (Or.inr (Or.inr (Or.inr (Or.inl ⟨rfl, rfl, by show 2 ≤ (x :: l).length; simp at c1 ⊢; omega, by show (x :: l).length ≤ 9; simp; omega⟩))))))
    exact ⟨g5, (((l1.tr l2).tr l3).tr l4).tr l5, x5⟩
  · split at hq
    · obtain ⟨⟨_, σ1⟩, e1, hq⟩ := bnd hq
      obtain ⟨g1, l1⟩ := i_next σ hg _ e1
      have x1 := hx.go (τ := σ1) (by have := n_next e1; dsimp only at this; rw [this])
      obtain ⟨⟨y, σ2⟩, e2, hq⟩ := bnd hq
      obtain ⟨g2, l2, y2⟩ := x_sums hr σ1 g1 _ e2
      rw [l1.1] at y2
      cases hq
      obtain ⟨g5, l5, x5⟩ := p_node (o := 6) (k := 0) (s := []) (f := none) (v := vNull) g2 ((Pq.one x1).snoc g1 l2 y2) (Or.inr (Or.inr (Or.inr (Or.inr (Or.inr (Or.inr (Or.inl ⟨rfl, rfl, rfl⟩)))))))
      exact ⟨g5, (l1.tr l2).tr l5, x5⟩
    · split at hq
      · obtain ⟨⟨_, σ1⟩, e1, hq⟩ := bnd hq
        obtain ⟨g1, l1⟩ := i_next σ hg _ e1
        have x1 := hx.go (τ := σ1) (by have := n_next e1; dsimp only at this; rw [this])
        obtain ⟨⟨a, σ2⟩, e2, hq⟩ := bnd hq
        obtain ⟨g2, l2, y2⟩ := x_sums hr σ1 g1 _ e2
        rw [l1.1] at y2
        obtain ⟨⟨_, σ3⟩, e3, hq⟩ := bnd hq
        obtain ⟨g3, l3⟩ := i_need "and" σ2 g2 _ e3
        obtain ⟨⟨b, σ4⟩, e4, hq⟩ := bnd hq
        obtain ⟨g4, l4, y4⟩ := x_sums hr σ3 g3 _ e4
        rw [l3.1, l2.1, l1.1] at y4
        cases hq
        have p2 := (Pq.one x1).snoc g1 l2 y2
        obtain ⟨g5, l5, x5⟩ := p_node (o := 7) (k := 0) (s := []) (f := none) (v := vNull) g4 ((p2.le g2 l3 (Nat.le_refl _)).snoc g3 l4 y4) (Or.inr (Or.inr (Or.inr (Or.inr (Or.inr (Or.inr (Or.inr (Or.inl ⟨rfl, rfl, rfl⟩))))))))
        exact ⟨g5, (((l1.tr l2).tr l3).tr l4).tr l5, x5⟩
      · split at hq
        · cases hq
        · cases hq
          exact ⟨hg, Le.rf _, hx.le (by omega)⟩
theorem x_compared (hr : ∀ σ, Xz src (3 * (30 - psO σ)) σ (rec σ)) (σ : PS) : Xz src (3 * (30 - psO σ) + 3) σ (pCompared rec sx src σ) := by
  intro hg q hq
  unfold pCompared at hq
  obtain ⟨⟨x, σ1⟩, e1, hq⟩ := bnd hq
  obtain ⟨g1, l1, x1⟩ := x_sums hr σ hg _ e1
  dsimp only at hq
  split at hq
  · rename_i k hk
    obtain ⟨⟨_, σ2⟩, e2, hq⟩ := bnd hq
    obtain ⟨g2, l2⟩ := i_next σ1 g1 _ e2
    have x2 := x1.go (τ := σ2) (by have := n_next e2; dsimp only at this; rw [this])
    obtain ⟨⟨y, σ3⟩, e3, hq⟩ := bnd hq
    obtain ⟨g3, l3, y3⟩ := x_sums hr σ2 g2 _ e3
    rw [l2.1, l1.1] at y3
    cases hq
    have hk5 : k ≤ 5 := by
      unfold pCmp at hk
      repeat' split at hk
      all_goals first | (cases hk; omega) | cases hk
    obtain ⟨g5, l5, x5⟩ := p_node (o := 9) (k := k) (s := []) (f := none) (v := vNull) g3 ((Pq.one x2).snoc g2 l3 y3) (Or.inr (Or.inr (Or.inr (Or.inr (Or.inr (Or.inr (Or.inr (Or.inr (Or.inr (Or.inl ⟨rfl, hk5, rfl⟩))))))))))
    exact ⟨g5, ((l1.tr l2).tr l3).tr l5, x5.le (by omega)⟩
  · split at hq
    · obtain ⟨⟨_, σ2⟩, e2, hq⟩ := bnd hq
      obtain ⟨g2, l2⟩ := i_next σ1 g1 _ e2
      have x2 := x1.go (τ := σ2) (by have := n_next e2; dsimp only at this; rw [this])
      obtain ⟨⟨nt, σ3⟩, e3, hq⟩ := bnd hq
      obtain ⟨g3, l3⟩ := i_take "not" σ2 g2 _ e3
      have x3 := x2.go (τ := σ3) (n_take e3)
      obtain ⟨⟨_, σ4⟩, e4, hq⟩ := bnd hq
      obtain ⟨g4, l4⟩ := i_need "null" σ3 g3 _ e4
      have x4 := x3.go (τ := σ4) (n_need e4)
      cases hq
      obtain ⟨g5, l5, x5⟩ := p_node (o := 8) (k := if nt = true then 1 else 0) (s := []) (f := none) (v := vNull) g4 (Pq.one x4) (Or.inr (Or.inr (Or.inr (Or.inr (Or.inr (Or.inr (Or.inr (Or.inr (Or.inl ⟨rfl, by show (if nt = true then 1 else 0) ≤ 1; split <;> omega, rfl⟩)))))))))
      exact ⟨g5, (((l1.tr l2).tr l3).tr l4).tr l5, x5.le (by omega)⟩
    · split at hq
      · obtain ⟨⟨_, σ2⟩, e2, hq⟩ := bnd hq
        obtain ⟨g2, l2⟩ := i_next σ1 g1 _ e2
        have x2 := x1.go (τ := σ2) (by have := n_next e2; dsimp only at this; rw [this])
        obtain ⟨⟨y, σ3⟩, e3, hq⟩ := bnd hq
        have o2 : psO σ2 = psO σ := by rw [l2.1, l1.1]
        obtain ⟨g3, l3, y3⟩ := x_among hr _ _ x true σ2 g2 (by rw [o2]; exact x2) _ e3
        rw [o2] at y3
        cases hq
        obtain ⟨g5, l5, x5⟩ := p_node (o := 12) (k := 0) (s := []) (f := none) (v := vNull) g3 (Pq.one y3) (Or.inr (Or.inr (Or.inr (Or.inr (Or.inr (Or.inr (Or.inr (Or.inr (Or.inr (Or.inr (Or.inr (Or.inl ⟨Or.inl rfl, rfl, rfl⟩))))))))))))
        exact ⟨g5, ((l1.tr l2).tr l3).tr l5, x5⟩
      · obtain ⟨g3, l3, y3⟩ := x_among hr _ _ x false σ1 g1 (by rw [l1.1]; exact x1) _ hq
        rw [l1.1] at y3
        exact ⟨g3, l1.tr l3, y3.le (by omega)⟩
theorem x_nots (hr : ∀ σ, Xz src (3 * (30 - psO σ)) σ (rec σ)) : ∀ n σ, Xz src (3 * (30 - psO σ) + 3) σ (pNots rec sx src n σ)
  | 0, σ => fun _ q hq => by cases hq
  | n + 1, σ => by
    intro hg q hq
    unfold pNots at hq
    dsimp only at hq
    split at hq
    · exact x_compared hr σ hg q hq
    · obtain ⟨⟨u, σ1⟩, e1, hq⟩ := bnd hq
      obtain ⟨e1, h30⟩ := e_enter e1
      dsimp only at e1
      subst e1
      have g1 := hg.enter h30
      obtain ⟨⟨_, σ2⟩, e2, hq⟩ := bnd hq
      obtain ⟨g2, l2⟩ := i_next _ g1 _ e2
      have n2 := n_next e2
      dsimp only at n2
      obtain ⟨⟨x, σ3⟩, e3, hq⟩ := bnd hq
      obtain ⟨g3, l3, x3⟩ := x_nots hr n σ2 g2 _ e3
      cases hq
      have hA : psA σ2 = psA σ := by rw [n2]; rfl
      have hN : psN σ2 = psN σ := by rw [n2]; rfl
      have hO : psO σ2 = psO σ + 1 := by rw [n2]; rfl
      rw [hA, hN, hO] at x3
      obtain ⟨g4, l4, x4⟩ := p_node (σ := pLeave σ3) (o := 12) (k := 0) (s := []) (f := none) (v := vNull) g3.leave (Pq.one (σ := pLeave σ3) x3) (Or.inr (Or.inr (Or.inr (Or.inr (Or.inr (Or.inr (Or.inr (Or.inr (Or.inr (Or.inr (Or.inr (Or.inl ⟨Or.inl rfl, rfl, rfl⟩))))))))))))
      have := hg.2.2
      exact ⟨g4, (l2.tr l3).leave.tr l4, x4.le (by omega)⟩
theorem x_andsL (hr : ∀ σ, Xz src (3 * (30 - psO σ)) σ (rec σ)) (lo N0 : Nat) : ∀ n x σ, Gd src σ → Xq N0 (3 * (30 - psO σ) + 3) lo σ x → ∀ q, pAndsL rec sx src lo n x σ = .ok q → Gd src q.2 ∧ Le σ q.2 ∧ Xq N0 (3 * (30 - psO σ) + 3) lo q.2 q.1
  | 0, x, σ, _, _, q, hq => by cases hq
  | n + 1, x, σ, hg, hx, q, hq => by
    unfold pAndsL at hq
    split at hq
    · obtain ⟨⟨_, σ1⟩, e1, hq⟩ := bnd hq
      obtain ⟨g1, l1, n1, _⟩ := i_oper hg e1
      obtain ⟨⟨y, σ2⟩, e2, hq⟩ := bnd hq
      obtain ⟨g2, l2, x2⟩ := x_nots hr 31 σ1 g1 _ e2
      rw [l1.1] at x2
      obtain ⟨g3, l3, x3⟩ := x_pair (o := 10) (k := 0) hg hx g1 l1 n1 g2 l2 x2 (Or.inr (Or.inr (Or.inr (Or.inr (Or.inr (Or.inr (Or.inr (Or.inr (Or.inr (Or.inr (Or.inl ⟨Or.inl rfl, rfl, rfl⟩)))))))))))
      have hO : psO (pNode σ2 (10, 0, [], none, vNull, [x, y], lo)).2 = psO σ := l3.1
      obtain ⟨g4, l4, x4⟩ := x_andsL hr lo N0 n _ _ g3 (by rw [hO]; exact x3) q hq
      rw [hO] at x4
      exact ⟨g4, l3.tr l4, x4⟩
    · cases hq
      exact ⟨hg, Le.rf _, hx⟩
theorem x_ands (hr : ∀ σ, Xz src (3 * (30 - psO σ)) σ (rec σ)) (σ : PS) : Xz src (3 * (30 - psO σ) + 3) σ (pAnds rec sx src σ) := by
  intro hg q hq
  unfold pAnds at hq
  obtain ⟨⟨x, σ1⟩, e1, hq⟩ := bnd hq
  obtain ⟨g1, l1, x1⟩ := x_nots hr 31 σ hg _ e1
  obtain ⟨g2, l2, x2⟩ := x_andsL hr _ _ 302 x σ1 g1 (by rw [l1.1]; exact x1) q hq
  rw [l1.1] at x2
  exact ⟨g2, l1.tr l2, x2⟩
theorem x_orsL (hr : ∀ σ, Xz src (3 * (30 - psO σ)) σ (rec σ)) (lo N0 : Nat) : ∀ n x σ, Gd src σ → Xq N0 (3 * (30 - psO σ) + 3) lo σ x → ∀ q, pOrsL rec sx src lo n x σ = .ok q → Gd src q.2 ∧ Le σ q.2 ∧ Xq N0 (3 * (30 - psO σ) + 3) lo q.2 q.1
  | 0, x, σ, _, _, q, hq => by cases hq
  | n + 1, x, σ, hg, hx, q, hq => by
    unfold pOrsL at hq
    split at hq
    · obtain ⟨⟨_, σ1⟩, e1, hq⟩ := bnd hq
      obtain ⟨g1, l1, n1, _⟩ := i_oper hg e1
      obtain ⟨⟨y, σ2⟩, e2, hq⟩ := bnd hq
      obtain ⟨g2, l2, x2⟩ := x_ands hr σ1 g1 _ e2
      rw [l1.1] at x2
      obtain ⟨g3, l3, x3⟩ := x_pair (o := 11) (k := 0) hg hx g1 l1 n1 g2 l2 x2 (Or.inr (Or.inr (Or.inr (Or.inr (Or.inr (Or.inr (Or.inr (Or.inr (Or.inr (Or.inr (Or.inl ⟨Or.inr rfl, rfl, rfl⟩)))))))))))
      have hO : psO (pNode σ2 (11, 0, [], none, vNull, [x, y], lo)).2 = psO σ := l3.1
      obtain ⟨g4, l4, x4⟩ := x_orsL hr lo N0 n _ _ g3 (by rw [hO]; exact x3) q hq
      rw [hO] at x4
      exact ⟨g4, l3.tr l4, x4⟩
    · cases hq
      exact ⟨hg, Le.rf _, hx⟩
end
theorem x_expr {sx : Bool} {src : Str} : ∀ n σ, Xz src (3 * (30 - psO σ)) σ (pExpr sx src n σ)
  | 0, σ => fun _ q hq => by cases hq
  | n + 1, σ => by
    intro hg q hq
    unfold pExpr at hq
    obtain ⟨⟨u, σ1⟩, e1, hq⟩ := bnd hq
    obtain ⟨e1, h30⟩ := e_enter e1
    dsimp only at e1
    subst e1
    have g1 := hg.enter h30
    obtain ⟨⟨x, σ2⟩, e2, hq⟩ := bnd hq
    obtain ⟨g2, l2, x2⟩ := x_ands (x_expr n) _ g1 _ e2
    obtain ⟨⟨y, σ3⟩, e3, hq⟩ := bnd hq
    obtain ⟨g3, l3, x3⟩ := x_orsL (x_expr n) _ _ 302 x σ2 g2 (by rw [l2.1]; exact x2) _ e3
    rw [l2.1] at x3
    cases hq
    have := hg.2.2
    refine ⟨g3.leave, (l2.tr l3).leave, ?_⟩
    have : Xq (psN σ) (3 * (30 - (psO σ + 1)) + 3) (psA σ).length (pLeave σ3) y := x3
    exact this.le (by omega)
