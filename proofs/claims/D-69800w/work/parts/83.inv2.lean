/-! signs: what their numbers and texts are like -/
theorem sNum_ok (src : Str) : ∀ n i (v : Int64), 0 ≤ v.toInt → v.toInt ≤ 10 * 9007199254740991 + 9 → 0 ≤ (sNum src n i v).toInt ∧ (sNum src n i v).toInt ≤ 10 * 9007199254740991 + 9
  | 0, i, v, h1, h2 => ⟨h1, h2⟩
  | n + 1, i, v, h1, h2 => by
    unfold sNum
    split
    · rename_i hd
      refine sNum_ok src n (i + 1) _ ?_ ?_
      all_goals
        split
        · rename_i hv
          have hv' : v.toInt ≤ 9007199254740991 := by
            have := Int64.le_iff_toInt_le.mp hv
            rwa [show (sMost).toInt = 9007199254740991 by decide] at this
          simp only [sDigit, Bool.and_eq_true, decide_eq_true_eq] at hd
          have d1 : (48 : Int) ≤ (sLk src i).toInt := Int32.le_iff_toInt_le.mp hd.1
          have d2 : (sLk src i).toInt ≤ (57 : Int) := Int32.le_iff_toInt_le.mp hd.2
          have e1 : (10 * v).toInt = 10 * v.toInt := by
            rw [Int64.toInt_mul, show (10 : Int64).toInt = 10 by decide]
            exact Int.bmod_eq_of_le (by omega) (by omega)
          have e2 : (10 * v + (sLk src i).toInt64).toInt = 10 * v.toInt + (sLk src i).toInt := by
            rw [Int64.toInt_add, e1, Int32.toInt_toInt64]
            exact Int.bmod_eq_of_le (by omega) (by omega)
          have e3 : (10 * v + (sLk src i).toInt64 - 48).toInt = 10 * v.toInt + (sLk src i).toInt - 48 := by
            rw [Int64.toInt_sub, e2, show (48 : Int64).toInt = 48 by decide]
            exact Int.bmod_eq_of_le (by omega) (by omega)
          rw [e3]; omega
        · assumption
    · exact ⟨h1, h2⟩
theorem sQ_ok (src : Str) : ∀ n i acc j s, sQuoted src n i acc = some (j, s) → acc.length ≤ 40 → (∀ c ∈ acc, (32 : Int32) ≤ c ∧ c ≤ 126) → s.length ≤ 40 ∧ ∀ c ∈ s, (32 : Int32) ≤ c ∧ c ≤ 126
  | 0, i, acc, j, s, h, _, _ => by simp [sQuoted] at h
  | n + 1, i, acc, j, s, h, h1, h2 => by
    unfold sQuoted at h
    dsimp only at h
    split at h
    · cases h
    · rename_i hc
      have hc' : (32 : Int32) ≤ sLk src i ∧ sLk src i ≤ 126 := by
        simp only [Bool.or_eq_true, decide_eq_true_eq, not_or, Int32.not_lt] at hc
        exact hc
      split at h
      · split at h
        · split at h
          · cases h
          · rename_i _ _ h40
            refine sQ_ok src n _ _ j s h (by have : acc.length ≠ 40 := by simpa using h40
                                             simp; omega) fun c hc => ?_
            rcases List.mem_append.mp hc with e | e
            · exact h2 c e
            · rw [List.mem_singleton.mp e]; exact ⟨by decide, by decide⟩
        · cases h; exact ⟨h1, h2⟩
      · split at h
        · cases h
        · rename_i _ h40
          refine sQ_ok src n _ _ j s h (by have : acc.length ≠ 40 := by simpa using h40
                                           simp; omega) fun c hc => ?_
          rcases List.mem_append.mp hc with e | e
          · exact h2 c e
          · rw [List.mem_singleton.mp e]; exact hc'
theorem tok_vals (src : Str) (p : Nat) : (tkK (sTok src p) = 3 → 0 ≤ tkN (sTok src p) ∧ tkN (sTok src p) ≤ sMost) ∧ (tkK (sTok src p) = 4 → (tkS (sTok src p)).length ≤ 40 ∧ ∀ c ∈ tkS (sTok src p), (32 : Int32) ≤ c ∧ c ≤ 126) ∧ (tkK (sTok src p) = 5 → 1 ≤ (tkN (sTok src p)).toNatClampNeg ∧ (tkN (sTok src p)).toNatClampNeg ≤ 8) := by
  unfold sTok
  dsimp only
  split
  · exact ⟨fun h => (by cases h), fun h => (by cases h), fun h => by cases h⟩
  · split
    · refine ⟨fun h => ?_, fun h => ?_, fun h => ?_⟩ <;> (unfold tkK at h; dsimp only at h; (repeat' split at h) <;> cases h)
    · split
      · refine ⟨fun h => ?_, fun h => ?_, fun h => ?_⟩
        · unfold tkK at h; dsimp only at h
          split at h
          · cases h
          · rename_i hm
            have := sNum_ok src src.length (sSkip src (src.length + 1) p) 0 (by decide) (by decide)
            exact ⟨Int64.le_iff_toInt_le.mpr this.1, Int64.not_lt.mp hm⟩
        · unfold tkK at h; dsimp only at h; (repeat' split at h) <;> cases h
        · unfold tkK at h; dsimp only at h; (repeat' split at h) <;> cases h
      · split
        · split
          · rename_i j s hs
            exact ⟨fun h => (by cases h), fun _ => sQ_ok src _ _ _ j s hs (by simp) (fun c hc => by cases hc), fun h => by cases h⟩
          · exact ⟨fun h => (by cases h), fun h => (by cases h), fun h => by cases h⟩
        · split
          · refine ⟨fun h => ?_, fun h => ?_, fun h => ?_⟩
            · unfold tkK at h; dsimp only at h; (repeat' split at h) <;> cases h
            · unfold tkK at h; dsimp only at h; (repeat' split at h) <;> cases h
            · unfold tkK at h; dsimp only at h
              split at h
              · rename_i hc
                simp only [Bool.and_eq_true, decide_eq_true_eq] at hc
                have d1 : (49 : Int) ≤ (sLk src (sSkip src (src.length + 1) p + 1)).toInt := Int32.le_iff_toInt_le.mp hc.1
                have d2 : (sLk src (sSkip src (src.length + 1) p + 1)).toInt ≤ (56 : Int) := Int32.le_iff_toInt_le.mp hc.2
                have e : ((sLk src (sSkip src (src.length + 1) p + 1) - 48).toInt64).toInt = (sLk src (sSkip src (src.length + 1) p + 1)).toInt - 48 := by
                  rw [Int32.toInt_toInt64, Int32.toInt_sub, show (48 : Int32).toInt = 48 by decide]
                  exact Int.bmod_eq_of_le (by omega) (by omega)
                show 1 ≤ ((sLk src (sSkip src (src.length + 1) p + 1) - 48).toInt64).toInt.toNat ∧ ((sLk src (sSkip src (src.length + 1) p + 1) - 48).toInt64).toInt.toNat ≤ 8
                rw [e]; omega
              · cases h
          · split
            · exact ⟨fun h => (by cases h), fun h => (by cases h), fun h => by cases h⟩
            · refine ⟨fun h => ?_, fun h => ?_, fun h => ?_⟩ <;> (unfold tkK at h; dsimp only at h; (repeat' split at h) <;> cases h)
theorem tok_name (src : Str) (p : Nat) : tkK (sTok src p) = 2 → (tkW (sTok src p)).length ≤ 20 := by
  unfold sTok
  dsimp only
  split
  · exact fun h => by cases h
  · split
    · intro h
      unfold tkK at h
      dsimp only at h
      split at h
      · cases h
      · split at h
        · assumption
        · cases h
    · split
      · intro h; unfold tkK at h; dsimp only at h; (repeat' split at h) <;> cases h
      · split
        · split <;> (intro h; cases h)
        · split
          · intro h; unfold tkK at h; dsimp only at h; (repeat' split at h) <;> cases h
          · split
            · intro h; cases h
            · intro h; unfold tkK at h; dsimp only at h; (repeat' split at h) <;> cases h
theorem bnd {α β : Type} {ε : Type} {x : Except ε α} {g : α → Except ε β} {q : β} (h : (x >>= g) = .ok q) : ∃ r, x = .ok r ∧ g r = .ok q := by
  cases x with
  | error e => cases h
  | ok r => exact ⟨r, rfl, h⟩
theorem mpd {α β : Type} {ε : Type} {x : Except ε α} {f : α → β} {q : β} (h : x.map f = .ok q) : ∃ r, x = .ok r ∧ q = f r := by
  cases x with
  | error e => cases h
  | ok r => cases h; exact ⟨r, rfl, rfl⟩
/-! expressions -/
def Pq (N0 K lo : Nat) (σ : PS) (l : List Nat) : Prop := N0 ≤ psN σ ∧ Til (psA σ) lo l (psA σ).length ∧ ∀ p ∈ l, HB (psA σ) (psN σ - N0 + K) p
section
variable {sx : Bool} {src : Str}
theorem Pq.le {N0 K K' lo : Nat} {a b : PS} {l : List Nat} (h : Pq N0 K lo a l) (g : Gd src a) (hl : Le a b) (hk : K ≤ K') : Pq N0 K' lo b l := by
  have hN := hl.2.1
  exact ⟨Nat.le_trans h.1 hN, (hl.til h.2.1 (Nat.le_refl _)).hi hl.len, fun p hp => (hl.hb g ((h.2.2 p hp).le hN hk) ((h.2.1.lt.2 p hp).1))⟩
theorem Pq.snoc {N0 K lo : Nat} {a b : PS} {l : List Nat} {i : Nat} (h : Pq N0 K lo a l) (g : Gd src a) (hl : Le a b) (hx : Xq (psN a) K (psA a).length b i) : Pq N0 K lo b (l ++ [i]) := by
  have h' := h.le g hl (Nat.le_refl K)
  have hN := hl.2.1
  have h1 := h.1
  refine ⟨h'.1, ?_, fun p hp => ?_⟩
  · rw [← hx.1]
    exact (hl.til h.2.1 (Nat.le_refl _)).snoc (by rw [hx.2.2.1]; exact Nat.le_refl _) (by rw [hx.2.2.1]; exact hx.2.1)
  · rcases List.mem_append.mp hp with e | e
    · exact h'.2.2 p e
    · rw [List.mem_singleton.mp e]; exact hx.2.2.2.2.mono (by omega)
theorem Pq.nil {K : Nat} {σ τ : PS} (h : Le σ τ) : Pq (psN σ) K (psA σ).length τ [] := ⟨h.2.1, h.len, fun p hp => by cases hp⟩
theorem Pq.one {N0 K lo : Nat} {σ : PS} {i : Nat} (h : Xq N0 K lo σ i) : Pq N0 K lo σ [i] := ⟨h.2.2.2.1, h.til, fun p hp => by rw [List.mem_singleton.mp hp]; exact h.2.2.2.2⟩
theorem Xq.le {N0 K K' lo : Nat} {σ : PS} {i : Nat} (h : Xq N0 K lo σ i) (hk : K ≤ K') : Xq N0 K' lo σ i := ⟨h.1, h.2.1, h.2.2.1, h.2.2.2.1, h.2.2.2.2.mono (by omega)⟩
theorem p_node {σ : PS} {N0 K lo o k : Nat} {s : Str} {f : Option Str} {v : Val} {l : List Nat} (hg : Gd src σ) (hp : Pq N0 K lo σ l) (hs : Shp (o, k, s, f, v, l, lo)) (hn : s.length ≤ 20 := by exact Nat.zero_le _) :
    Gd src (pNode σ (o, k, s, f, v, l, lo)).2 ∧ Le σ (pNode σ (o, k, s, f, v, l, lo)).2 ∧ Xq N0 (K + 1) lo (pNode σ (o, k, s, f, v, l, lo)).2 (pNode σ (o, k, s, f, v, l, lo)).1 := x_node hg hp.2.1 hp.2.2 hp.1 hs hn
theorem nm_len {σ : PS} (hg : Gd src σ) {q : Str × PS} (hq : pName sx src σ = .ok q) : q.1.length ≤ 20 := by
  obtain ⟨p, hp⟩ := hg.1
  unfold pName at hq
  split at hq
  · rename_i hk
    obtain ⟨r, _, rfl⟩ := mpd hq
    have := tok_name src p
    rw [← hp] at this
    exact this (by simpa using hk)
  · cases hq
variable {rec : PS → Except Nat (Nat × PS)} {K o : Nat}
theorem x_list (hr : ∀ σ, psO σ = o → Xz src K σ (rec σ)) (m : Nat) : ∀ n l σ N0 lo, psO σ = o → Gd src σ → Pq N0 K lo σ l → l.length ≤ m → ∀ q, pList rec sx src m n l σ = .ok q → Gd src q.2 ∧ Le σ q.2 ∧ Pq N0 K lo q.2 q.1 ∧ l.length < q.1.length ∧ q.1.length ≤ m
  | 0, l, σ, N0, lo, _, _, _, _, q, hq => by cases hq
  | n + 1, l, σ, N0, lo, ho, hg, hp, hm, q, hq => by
    unfold pList at hq
    split at hq
    · cases hq
    · rename_i hm'
      have hm' : l.length ≠ m := by simpa using hm'
      obtain ⟨⟨x, σ1⟩, e1, hq⟩ := bnd hq
      obtain ⟨g1, l1, x1⟩ := hr σ ho hg _ e1
      obtain ⟨⟨c, σ2⟩, e2, hq⟩ := bnd hq
      obtain ⟨g2, l2⟩ := i_take "," σ1 g1 _ e2
      have p2 := (hp.snoc hg l1 x1).le g1 l2 (Nat.le_refl K)
      cases c with
      | false =>
        cases hq
        exact ⟨g2, l1.tr l2, p2, by simp, by simp; omega⟩
      | true =>
        obtain ⟨g3, l3, p3, c3, c4⟩ := x_list hr m n (l ++ [x]) σ2 N0 lo (by rw [l2.1, l1.1, ho]) g2 p2 (by simp; omega) q hq
        exact ⟨g3, (l1.tr l2).tr l3, p3, by simp at c3; omega, c4⟩
theorem x_whens (hr : ∀ σ, psO σ = o → Xz src K σ (rec σ)) : ∀ n l σ N0 lo, psO σ = o → Gd src σ → Pq N0 K lo σ l → (∃ w, l.length = 2 * w ∧ w ≤ 19) → ∀ q, pWhens rec sx src n l σ = .ok q → Gd src q.2 ∧ Le σ q.2 ∧ Pq N0 K lo q.2 q.1 ∧ (∃ w, q.1.length = 2 * w ∧ w ≤ 19) ∧ l.length ≤ q.1.length ∧ (pIs σ "when" = true → l.length < q.1.length)
  | 0, l, σ, N0, lo, _, _, _, _, q, hq => by cases hq
  | n + 1, l, σ, N0, lo, ho, hg, hp, hw, q, hq => by
    unfold pWhens at hq
    split at hq
    · rename_i hz
      cases hq
      exact ⟨hg, Le.rf _, hp, hw, Nat.le_refl _, fun z => by rw [z] at hz; cases hz⟩
    · split at hq
      · cases hq
      · rename_i h38
        have h38 : l.length ≠ 38 := by simpa using h38
        obtain ⟨⟨_, σ1⟩, e1, hq⟩ := bnd hq
        obtain ⟨g1, l1⟩ := i_next σ hg _ e1
        obtain ⟨⟨x, σ2⟩, e2, hq⟩ := bnd hq
        obtain ⟨g2, l2, x2⟩ := hr σ1 (by rw [l1.1, ho]) g1 _ e2
        obtain ⟨⟨_, σ3⟩, e3, hq⟩ := bnd hq
        obtain ⟨g3, l3⟩ := i_need "then" σ2 g2 _ e3
        obtain ⟨⟨y, σ4⟩, e4, hq⟩ := bnd hq
        obtain ⟨g4, l4, x4⟩ := hr σ3 (by rw [l3.1, l2.1, l1.1, ho]) g3 _ e4
        have p2 := (hp.le hg l1 (Nat.le_refl K)).snoc g1 l2 x2
        have p4 := (p2.le g2 l3 (Nat.le_refl K)).snoc g3 l4 x4
        rw [List.append_assoc] at p4
        obtain ⟨w, w1, w2⟩ := hw
        obtain ⟨g5, l5, p5, c1, c2, _⟩ := x_whens hr n (l ++ [x, y]) σ4 N0 lo (by rw [l4.1, l3.1, l2.1, l1.1, ho]) g4 p4 ⟨w + 1, by simp; omega, by omega⟩ q hq
        simp at c2
        exact ⟨g5, (((l1.tr l2).tr l3).tr l4).tr l5, p5, c1, by omega, fun _ => by omega⟩
theorem x_primary (hr : ∀ σ, psO σ = o → Xz src K σ (rec σ)) (σ : PS) (ho : psO σ = o) : Xz src (K + 1) σ (pPrimary rec sx src σ) := by
  intro hg q hq
  obtain ⟨p, hp⟩ := hg.1
  have tv := tok_vals src p
  rw [← hp] at tv
  unfold pPrimary at hq
  dsimp only at hq
  have leaf : ∀ (τ : PS) (r : Unit × PS) (oo k : Nat) (s : Str) (f : Option Str) (v : Val), psA τ = psA σ → psN τ = psN σ → Gd src τ → Le σ τ → pNext sx src τ = .ok r → Shp (oo, k, s, f, v, [], (psA σ).length) → s.length ≤ 20 → q = pNode r.2 (oo, k, s, f, v, [], (psA σ).length) → Gd src q.2 ∧ Le σ q.2 ∧ Xq (psN σ) (K + 1) (psA σ).length q.2 q.1 := by
    intro τ r oo k s f v a1 a2 gt lt er hs hn e
    subst e
    obtain ⟨g1, l1⟩ := i_next τ gt _ er
    obtain ⟨g2, l2, x2⟩ := p_node g1 (Pq.nil (K := K) (lt.tr l1)) hs hn
    exact ⟨g2, (lt.tr l1).tr l2, x2⟩
  by_cases hk0 : (tkK (psT σ) == 3) = true
  · rw [if_pos hk0] at hq
    have hk := hk0
    obtain ⟨r, er, e⟩ := mpd hq
    exact leaf σ r _ _ _ _ _ rfl rfl hg (Le.rf _) er (Or.inl ⟨rfl, rfl, rfl, Or.inr (Or.inr (Or.inl ⟨_, rfl, tv.1 (by simpa using hk)⟩))⟩) (Nat.zero_le _) e
  rw [if_neg hk0] at hq
  by_cases hk1 : (tkK (psT σ) == 4) = true
  · rw [if_pos hk1] at hq
    have hk := hk1
    obtain ⟨r, er, e⟩ := mpd hq
    exact leaf σ r _ _ _ _ _ rfl rfl hg (Le.rf _) er (Or.inl ⟨rfl, rfl, rfl, Or.inr (Or.inr (Or.inr ⟨_, rfl, tv.2.1 (by simpa using hk)⟩))⟩) (Nat.zero_le _) e
  rw [if_neg hk1] at hq
  by_cases hk2 : (tkK (psT σ) == 5) = true
  · rw [if_pos hk2] at hq
    have hk := hk2
    obtain ⟨r, er, e⟩ := mpd hq
    have t5 := tv.2.2 (by simpa using hk)
    refine leaf (psT σ, psO σ, psN σ, max (psP σ) (tkN (psT σ)).toNatClampNeg, psA σ) r _ _ _ _ _ rfl rfl ⟨hg.1, hg.2⟩ ⟨rfl, Nat.le_refl _, fun h => h, Nat.le_max_left _ _, fun h => ?_, [], (List.append_nil _).symm⟩ er (Or.inr (Or.inl ⟨rfl, rfl, ?_⟩)) (Nat.zero_le _) e
    · exact Nat.max_le.mpr ⟨h, t5.2⟩
    · show (tkN (psT σ)).toNatClampNeg - 1 < 8
      omega
  rw [if_neg hk2] at hq
  by_cases hk3 : (pIs σ "true" || pIs σ "false") = true
  · rw [if_pos hk3] at hq
    obtain ⟨r, er, e⟩ := mpd hq
    exact leaf σ r _ _ _ _ _ rfl rfl hg (Le.rf _) er (Or.inl ⟨rfl, rfl, rfl, Or.inr (Or.inl ⟨_, rfl⟩)⟩) (Nat.zero_le _) e
  rw [if_neg hk3] at hq
  by_cases hk4 : pIs σ "null" = true
  · rw [if_pos hk4] at hq
    obtain ⟨r, er, e⟩ := mpd hq
    exact leaf σ r _ _ _ _ _ rfl rfl hg (Le.rf _) er (Or.inl ⟨rfl, rfl, rfl, Or.inl rfl⟩) (Nat.zero_le _) e
  rw [if_neg hk4] at hq
  by_cases hk5 : pIs σ "case" = true
  · rw [if_pos hk5] at hq
    obtain ⟨⟨_, σ1⟩, e1, hq⟩ := bnd (x := pNext sx src σ) hq
    obtain ⟨g1, l1⟩ := i_next σ hg _ e1
    unfold pCases at hq
    split at hq
    · cases hq
    · rename_i hwn
      have hwn : pIs σ1 "when" = true := by simpa using hwn
      obtain ⟨⟨l, σ2⟩, e2, hq⟩ := bnd hq
      obtain ⟨g2, l2, p2, ⟨w, w1, w2⟩, _, c6⟩ := x_whens hr 20 [] σ1 (psN σ) (psA σ).length (by rw [l1.1, ho]) g1 (Pq.nil l1) ⟨0, rfl, by omega⟩ _ e2
      have c6 := c6 hwn
      dsimp only at w1
      simp only [List.length_nil] at c6
      obtain ⟨⟨e, σ3⟩, e3, hq⟩ := bnd hq
      obtain ⟨g3, l3⟩ := i_take "else" σ2 g2 _ e3
      have p3 := p2.le g2 l3 (Nat.le_refl K)
      cases e with
      | true =>
        obtain ⟨⟨x, σ4⟩, e4, hq⟩ := bnd hq
        obtain ⟨g4, l4, x4⟩ := hr σ3 (by rw [l3.1, l2.1, l1.1, ho]) g3 _ e4
        have p4 := p3.snoc g3 l4 x4
        obtain ⟨⟨_, σ5⟩, e5, hq⟩ := bnd hq
        obtain ⟨g5, l5⟩ := i_need "end" σ4 g4 _ e5
        cases hq
        obtain ⟨g6, l6, x6⟩ := p_node (o := 4) (k := 1) (s := []) (f := none) (v := vNull) g5 (p4.le g4 l5 (Nat.le_refl K)) (Or.inr (Or.inr (Or.inr (Or.inr (Or.inl ⟨rfl, Nat.le_refl _, w, by omega, w2, by show (l ++ [x]).length = _; rw [List.length_append, w1]; rfl⟩)))))
        exact ⟨g6, ((((l1.tr l2).tr l3).tr l4).tr l5).tr l6, x6⟩
      | false =>
        obtain ⟨⟨_, σ5⟩, e5, hq⟩ := bnd hq
        obtain ⟨g5, l5⟩ := i_need "end" σ3 g3 _ e5
        cases hq
        obtain ⟨g6, l6, x6⟩ := p_node (o := 4) (k := 0) (s := []) (f := none) (v := vNull) g5 (p3.le g3 l5 (Nat.le_refl K)) (Or.inr (Or.inr (Or.inr (Or.inr (Or.inl ⟨rfl, Nat.zero_le _, w, by omega, w2, w1⟩)))))
        exact ⟨g6, (((l1.tr l2).tr l3).tr l5).tr l6, x6⟩
  rw [if_neg hk5] at hq
  by_cases hk6 : pIs σ "(" = true
  · rw [if_pos hk6] at hq
    obtain ⟨⟨_, σ1⟩, e1, hq⟩ := bnd hq
    obtain ⟨g1, l1⟩ := i_next σ hg _ e1
    obtain ⟨⟨x, σ2⟩, e2, hq⟩ := bnd hq
    obtain ⟨g2, l2, x2⟩ := hr σ1 (by rw [l1.1, ho]) g1 _ e2
    obtain ⟨⟨_, σ3⟩, e3, hq⟩ := bnd hq
    have nx : ∀ {τ : PS} {r : Unit × PS} {s : String}, pNeed sx src s τ = .ok r → psA r.2 = psA τ ∧ psN r.2 = psN τ := by
      intro τ r s h
      unfold pNeed pNext at h
      dsimp only at h
      split at h
      · split at h
        · cases h
        · cases h; exact ⟨rfl, rfl⟩
      · cases h
    have nx1 : psA σ1 = psA σ ∧ psN σ1 = psN σ := by
      unfold pNext at e1
      dsimp only at e1
      split at e1
      · cases e1
      · cases e1; exact ⟨rfl, rfl⟩
    obtain ⟨g3, l3⟩ := i_need ")" σ2 g2 _ e3
    cases hq
    refine ⟨g3, (l1.tr l2).tr l3, ?_⟩
    have n3 := nx e3
    unfold Xq at x2 ⊢
    rw [n3.1, n3.2]
    rw [nx1.1, nx1.2] at x2
    exact ⟨x2.1, x2.2.1, x2.2.2.1, x2.2.2.2.1, x2.2.2.2.2.mono (by omega)⟩
  · rw [if_neg hk6] at hq
    obtain ⟨⟨s, σ1⟩, e1, hq⟩ := bnd hq
    obtain ⟨g1, l1⟩ := i_name σ hg _ e1
    have hsn : s.length ≤ 20 := nm_len hg e1
    split at hq
    · obtain ⟨⟨_, σ2⟩, e2, hq⟩ := bnd hq
      obtain ⟨g2, l2⟩ := i_next σ1 g1 _ e2
      obtain ⟨⟨st, σ3⟩, e3, hq⟩ := bnd hq
      obtain ⟨g3, l3⟩ := i_take "*" σ2 g2 _ e3
      dsimp only at hq
      split at hq
      · obtain ⟨⟨_, σ4⟩, e4, hq⟩ := bnd hq
        obtain ⟨g4, l4⟩ := i_need ")" σ3 g3 _ e4
        cases hq
        obtain ⟨g5, l5, x5⟩ := p_node (o := 3) (k := if st = true then 1 else 0) (s := s) (f := none) (v := vNull) g4 (Pq.nil (K := K) (((l1.tr l2).tr l3).tr l4)) (Or.inr (Or.inr (Or.inr (Or.inl ⟨rfl, Nat.zero_le _, by cases st; exact Or.inl rfl; exact Or.inr ⟨rfl, rfl⟩⟩)))) hsn
        exact ⟨g5, (((l1.tr l2).tr l3).tr l4).tr l5, x5⟩
      · obtain ⟨⟨l, σ4⟩, e4, hq⟩ := bnd hq
        obtain ⟨g4, l4, p4, c1, c2⟩ := x_list hr 8 9 [] σ3 (psN σ) (psA σ).length (by rw [l3.1, l2.1, l1.1, ho]) g3 (Pq.nil ((l1.tr l2).tr l3)) (by simp) _ e4
        obtain ⟨⟨_, σ5⟩, e5, hq⟩ := bnd hq
        obtain ⟨g5, l5⟩ := i_need ")" σ4 g4 _ e5
        cases hq
        obtain ⟨g6, l6, x6⟩ := p_node (o := 3) (k := 0) (s := s) (f := none) (v := vNull) g5 (p4.le g4 l5 (Nat.le_refl K)) (Or.inr (Or.inr (Or.inr (Or.inl ⟨rfl, c2, Or.inl rfl⟩)))) hsn
        exact ⟨g6, ((((l1.tr l2).tr l3).tr l4).tr l5).tr l6, x6⟩
    · split at hq
      · obtain ⟨⟨_, σ2⟩, e2, hq⟩ := bnd hq
        obtain ⟨g2, l2⟩ := i_next σ1 g1 _ e2
        obtain ⟨⟨s2, σ3⟩, e3, hq⟩ := bnd hq
        obtain ⟨g3, l3⟩ := i_name σ2 g2 _ e3
        have hsn2 : s2.length ≤ 20 := nm_len g2 e3
        cases hq
        obtain ⟨g5, l5, x5⟩ := p_node (o := 2) (k := 0) (s := s2) (f := some s) (v := vNull) g3 (Pq.nil (K := K) ((l1.tr l2).tr l3)) (Or.inr (Or.inr (Or.inl ⟨rfl, rfl, rfl⟩))) hsn2
        exact ⟨g5, ((l1.tr l2).tr l3).tr l5, x5⟩
      · cases hq
        obtain ⟨g5, l5, x5⟩ := p_node (o := 2) (k := 0) (s := s) (f := none) (v := vNull) g1 (Pq.nil (K := K) l1) (Or.inr (Or.inr (Or.inl ⟨rfl, rfl, rfl⟩))) hsn
        exact ⟨g5, l1.tr l5, x5⟩
end
