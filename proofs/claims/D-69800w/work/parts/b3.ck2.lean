/-! the component: columns are checked -/
/-- the place of a column, as its class looks for it -/
def clk (of : Option Str) (s : Str) : List (Str × Tab) → Nat → Option (Nat × Nat) → Ex (Nat × Nat)
  | [], _, none => xErr (if of.isSome = true then "42P01" else "42703")
  | [], _, some q => .ok q
  | t :: l, k, acc =>
    if of.all (· == t.1) = true then match tColOf t.2.2.1 s with
      | none => if of.isSome = true then xErr "42703" else clk of s l (k + 1) acc
      | some c => match acc with
        | some _ => xErr "42702"
        | none => clk of s l (k + 1) (some (k, c))
    else clk of s l (k + 1) acc
def fnd (of : Option Str) (s : Str) (l : List (Str × Tab)) (k : Nat) : List (Nat × Nat) := (l.zipIdx k).filterMap fun q => if of.all (· == q.1.1) = true then (tColOf q.1.2.2.1 s).map fun c => (q.2, c) else none
theorem fnd_cons (of : Option Str) (s : Str) (t : Str × Tab) (l : List (Str × Tab)) (k : Nat) : fnd of s (t :: l) k = (if of.all (· == t.1) = true then match tColOf t.2.2.1 s with
      | none => fnd of s l (k + 1)
      | some c => (k, c) :: fnd of s l (k + 1)
    else fnd of s l (k + 1)) := by
  unfold fnd
  rw [List.zipIdx_cons, List.filterMap_cons]
  by_cases e : of.all (· == t.1) = true
  · simp only [e, if_true]
    cases tColOf t.2.2.1 s <;> rfl
  · simp only [e, if_false]
    rfl
theorem clk_none (s : Str) : ∀ l k acc, clk none s l k acc = (match acc.toList ++ fnd none s l k with
    | [] => xErr "42703"
    | [q] => .ok q
    | _ => xErr "42702")
  | [], k, none => rfl
  | [], k, some q => rfl
  | t :: l, k, acc => by
    rw [fnd_cons, if_pos (show (none : Option Str).all (· == t.1) = true from rfl)]
    unfold clk
    rw [if_pos (show (none : Option Str).all (· == t.1) = true from rfl)]
    cases tColOf t.2.2.1 s with
    | none => exact clk_none s l (k + 1) acc
    | some c =>
      cases acc with
      | some q => rfl
      | none => exact clk_none s l (k + 1) (some (k, c))
theorem clk_out (x s : Str) : ∀ l k acc, (∀ t ∈ l, t.1 ≠ x) → clk (some x) s l k acc = (match acc with
    | none => xErr "42P01"
    | some q => .ok q) ∧ fnd (some x) s l k = []
  | [], k, none, _ => ⟨rfl, rfl⟩
  | [], k, some q, _ => ⟨rfl, rfl⟩
  | t :: l, k, acc, hn => by
    have ne : ¬ (some x).all (· == t.1) = true := by
      show ¬ (x == t.1) = true
      simpa using fun e : x = t.1 => hn t (List.mem_cons_self) e.symm
    obtain ⟨a, b⟩ := clk_out x s l (k + 1) acc fun u hu => hn u (List.mem_cons_of_mem _ hu)
    refine ⟨?_, ?_⟩
    · unfold clk
      rw [if_neg ne]; exact a
    · rw [fnd_cons, if_neg ne]; exact b
theorem clk_some (x s : Str) : ∀ l k, (l.map (·.1)).Nodup → clk (some x) s l k none = (if (l.any fun q => some x == some q.1) = true then (match fnd (some x) s l k with
    | [] => xErr "42703"
    | [q] => .ok q
    | _ => xErr "42702") else xErr "42P01")
  | [], k, _ => rfl
  | t :: l, k, hn => by
    rw [List.map_cons, List.nodup_cons] at hn
    rw [fnd_cons]
    unfold clk
    by_cases e : (some x).all (· == t.1) = true
    · have e1 : x = t.1 := eq_of_beq e
      have out : ∀ u ∈ l, u.1 ≠ x := fun u hu z => hn.1 (List.mem_map.mpr ⟨u, hu, by rw [z, e1]⟩)
      have ha : ((t :: l).any fun q => some x == some q.1) = true := by rw [List.any_cons, e1]; simp
      rw [if_pos e, if_pos e, if_pos ha]
      cases tColOf t.2.2.1 s with
      | none =>
        show xErr "42703" = _
        dsimp only
        rw [(clk_out x s l (k + 1) none out).2]
      | some c =>
        dsimp only
        rw [(clk_out x s l (k + 1) (some (k, c)) out).1, (clk_out x s l (k + 1) none out).2]
    · rw [if_neg e, if_neg e, clk_some x s l (k + 1) hn.2, List.any_cons]
      have : (some x == some t.1) = false := by
        apply Bool.eq_false_iff.mpr
        intro z
        exact e (by show (x == t.1) = true; simpa using z)
      rw [this, Bool.false_or]
theorem tColumn_eq (E : TEnv) (of : Option Str) (s : Str) (hn : (E.1.map (·.1)).Nodup) : tColumn E of s = clk of s E.1 0 none := by
  have e : tFound E.1 of s = fnd of s E.1 0 := rfl
  unfold tColumn
  rw [e]
  cases of with
  | none =>
    rw [clk_none]
    show (xMust true "42P01" >>= _) = _
    rfl
  | some x =>
    rw [clk_some x s _ _ hn]
    by_cases c : (E.1.any fun q => some x == some q.1) = true
    · rw [if_pos c]
      show (xMust (false || E.1.any fun q => some x == some q.1) "42P01" >>= _) = _
      rw [c]; rfl
    · rw [if_neg c]
      show (xMust (false || E.1.any fun q => some x == some q.1) "42P01" >>= _) = _
      rw [Bool.eq_false_iff.mpr c]; rfl
section
variable {D : JD} {h h' h'' hm h0 : JH} {ρ : Nat → Nat} {A : List Nod} {E : TEnv} {d sc r x i n : Nat} {M : Nat → Prop}
def tcI (cs : List Col) (w : Str) : Int32 := match tColOf cs w with
  | some c => nI c
  | none => -1
theorem w_tcolL {tb nm : Nat} {cs : List Col} {w : Str} {Q : JO → JH → Prop} (k : TabC D h tb cs) (hw : StR h nm w) (hd : 2 ≤ d) (hQ : Q (.inl (some (vI (tcI cs w)))) h) :
    ∀ f i, cs.length < f + i → i ≤ cs.length → (∀ j v, j < i → cs[j]? = some v → v.1 ≠ w) → L_X5_column_2 D d Q f tb nm (nI i) h
  | 0, i, h1, h2, _ => by exfalso; omega
  | f + 1, i, h1, h2, hn => by
    obtain ⟨k1, k2, k3, k4, k5, k6, k7⟩ := k
    refine ⟨k1, fun z => ?_, fun z => ?_⟩
    · rw [k4, nI_leI (by omega) (by omega)] at z
      have e : tColOf cs w = none := by
        unfold tColOf
        rw [List.findIdx?_eq_none_iff]
        intro v hv
        obtain ⟨j, hj, rfl⟩ := List.mem_iff_getElem.mp hv
        have := hn j cs[j] (by omega) (List.getElem?_eq_getElem hj)
        simpa using this
      unfold tcI at hQ
      rw [e] at hQ
      exact hQ
    · rw [k4, nI_leI (by omega) (by omega)] at z
      have il : i < cs.length := by omega
      have ci := (k7 i cs[i] (List.getElem?_eq_getElem il)).1
      rw [ixn_nI (by omega)]
      refine ⟨k3, jin_nI (by omega) (by omega), ci.1, ci.2.2.1.1, JW.up (n := 2) (fun y => useI0 (k_equals (d := y) ci.2.2.1 hw) ?_) hd⟩
      rintro v h1' _ _ ⟨rfl, he⟩
      have he := he.symm
      subst he
      by_cases e : cs[i].1 = w
      · rw [if_pos e]
        refine ⟨fun z => absurd z (by decide), fun _ => ?_⟩
        have e : tColOf cs w = some i := by
          unfold tColOf
          rw [List.findIdx?_eq_some_iff_getElem]
          refine ⟨il, by rw [e]; simp, fun j hj => ?_⟩
          have := hn j cs[j] hj (List.getElem?_eq_getElem (by omega))
          simpa using this
        unfold tcI at hQ
        rw [e] at hQ
        exact hQ
      · rw [if_neg e]
        refine ⟨fun _ => ?_, fun z => absurd rfl z⟩
        rw [nI_1]
        refine w_tcolL ⟨k1, k2, k3, k4, k5, k6, k7⟩ hw hd hQ f (i + 1) (by omega) (by omega) fun j v hj hv => ?_
        by_cases c : j < i
        · exact hn j v c hv
        · have : j = i := by omega
          rw [this, List.getElem?_eq_getElem il] at hv
          cases hv
          exact e
theorem w_tcol {tb nm : Nat} {cs : List Col} {w : Str} (k : TabC D h tb cs) (hw : StR h nm w) (hd : 3 ≤ d) : cX5_column D d tb nm h (pI D h (fun v h' => v = tcI cs w ∧ h' = h) no) := by
  obtain ⟨e, rfl, he⟩ := dsucc hd
  exact t_X5_column ⟨cs.length + 1, w_tcolL k hw he (endI fun _ _ => ⟨rfl, rfl⟩) (cs.length + 1) 0 (by omega) (by omega) fun j v hj => by omega⟩
theorem tColOf_lt {cs : List Col} {w : Str} {c : Nat} (e : tColOf cs w = some c) : c < cs.length := by
  unfold tColOf at e
  rw [List.findIdx?_eq_some_iff_getElem] at e
  exact e.1
/-- what the column has found so far -/
def Acc (h : JH) (r : Nat) (E : TEnv) (s : Str) : Option (Nat × Nat) → Prop
  | none => jfi h 119 r = -1
  | some q => jfi h 119 r = nI q.1 ∧ jfi h 120 r = nI q.2 ∧ ∃ t, E.1[q.1]? = some t ∧ tColOf t.2.2.1 s = some q.2
theorem lt_nI {n : Nat} (hn : n < 1000) : ¬ nI n < 0 := fun z => by
  have : (0 : Int32) = nI 0 := rfl
  rw [this, nI_ltI (by omega) (by decide)] at z
  omega
theorem le_nI {n : Nat} (hn : n < 1000) : (0 : Int32) ≤ nI n := by
  rw [show (0 : Int32) = nI 0 from rfl, nI_leI (by decide) (by omega)]
  omega
end
