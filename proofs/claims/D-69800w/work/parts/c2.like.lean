/-! the component: parts of trees; trees written alike -/
section
variable {D : JD} {h h' h'' hm h0 h1 h2 h3 hb : JH} {ρ : Nat → Nat} {A : List Nod} {E : TEnv} {d sc r x i j n f c q lo hi t : Nat}
theorem nkd_op {n : Nod} (h : ndO n ≤ 14) {k : Nat} (e : nkd n = k) : (k = 20 ∧ ndO n = 1) ∨ (k = 21 ∧ ndO n = 4) ∨ (k = 22 ∧ ndO n = 3) ∨ (k = 23 ∧ ndO n = 3 ∧ ndK n ≠ 1 ∧ tGather (ndS n) = false) ∨ (k = 24 ∧ ndO n = 2) ∨ (k = 25 ∧ ndO n = 0) ∨ (k = 26 ∧ (ndO n = 12 ∨ ndO n = 13)) ∨ (k = 27 ∧ (ndO n = 6 ∨ ndO n = 9 ∨ ndO n = 10 ∨ ndO n = 11 ∨ ndO n = 14)) ∨ (k = 28 ∧ ndO n = 8) ∨ (k = 29 ∧ (ndO n = 5 ∨ ndO n = 7)) := by
  have ho : ndO n = 3 ∨ ndO n = 0 ∨ ndO n = 1 ∨ ndO n = 2 ∨ ndO n = 4 ∨ ndO n = 5 ∨ ndO n = 6 ∨ ndO n = 7 ∨ ndO n = 8 ∨ ndO n = 9 ∨ ndO n = 10 ∨ ndO n = 11 ∨ ndO n = 12 ∨ ndO n = 13 ∨ ndO n = 14 := by omega
  unfold nkd at e
  rcases ho with o | o | o | o | o | o | o | o | o | o | o | o | o | o | o
  · rw [o] at e
    have e : (if ndK n = 1 ∨ tGather (ndS n) = true then 22 else 23) = k := e
    by_cases c : ndK n = 1 ∨ tGather (ndS n) = true
    · rw [if_pos c] at e; omega
    · rw [if_neg c] at e
      exact Or.inr (Or.inr (Or.inr (Or.inl ⟨e.symm, o, fun z => c (Or.inl z), Bool.eq_false_iff.mpr fun z => c (Or.inr z)⟩)))
  all_goals (rw [o] at e; first | (have e : 25 = k := e; omega) | (have e : 20 = k := e; omega) | (have e : 24 = k := e; omega) | (have e : 21 = k := e; omega) | (have e : 29 = k := e; omega) | (have e : 28 = k := e; omega) | (have e : 26 = k := e; omega) | (have e : 27 = k := e; omega))
theorem Shp.op {n : Nod} (sh : Shp n) : ndO n ≤ 14 := by
  rcases sh with h | h | h | h | h | h | h | h | h | h | h | h | h
  all_goals (have := h.1; omega)
theorem useCnt {K K' : Int32 → JH → Prop} {X : Nat → JH → Prop} (k : v55_count D d q h (pI D h K no)) (g : ∀ v h', JInv D h' → jle h h' → K v h' → K' v h') : v55_count D d q h (pI D h K' X) := by
  obtain ⟨a1, a2, a3, a4, a5, a6, a7, a8, a9, a10⟩ := k
  exact ⟨fun z => useI0 (a1 z) g, fun z => useI0 (a2 z) g, fun z => useI0 (a3 z) g, fun z => useI0 (a4 z) g, fun z => useI0 (a5 z) g, fun z => useI0 (a6 z) g, fun z => useI0 (a7 z) g, fun z => useI0 (a8 z) g, fun z => useI0 (a9 z) g, fun z => useI0 (a10 z) g⟩
theorem usePrt {x1 : Int32} {K K' : Nat → JH → Prop} {X : Nat → JH → Prop} (k : v55_part D d q x1 h (pR D h 55 K no)) (g : ∀ v h', JInv D h' → jle h h' → K v h' → K' v h') : v55_part D d q x1 h (pR D h 55 K' X) := by
  obtain ⟨a1, a2, a3, a4, a5, a6, a7, a8, a9, a10⟩ := k
  exact ⟨fun z => useR0 (a1 z) g, fun z => useR0 (a2 z) g, fun z => useR0 (a3 z) g, fun z => useR0 (a4 z) g, fun z => useR0 (a5 z) g, fun z => useR0 (a6 z) g, fun z => useR0 (a7 z) g, fun z => useR0 (a8 z) g, fun z => useR0 (a9 z) g, fun z => useR0 (a10 z) g⟩
theorem useLike {K K' : Int32 → JH → Prop} {X : Nat → JH → Prop} (k : v55_like D d q r h (pI D h K no)) (g : ∀ v h', JInv D h' → jle h h' → K v h' → K' v h') : v55_like D d q r h (pI D h K' X) := by
  obtain ⟨a1, a2, a3, a4, a5, a6, a7, a8, a9, a10⟩ := k
  exact ⟨fun z => useI0 (a1 z) g, fun z => useI0 (a2 z) g, fun z => useI0 (a3 z) g, fun z => useI0 (a4 z) g, fun z => useI0 (a5 z) g, fun z => useI0 (a6 z) g, fun z => useI0 (a7 z) g, fun z => useI0 (a8 z) g, fun z => useI0 (a9 z) g, fun z => useI0 (a10 z) g⟩
/-- how many parts -/
theorem w_cnt (hA : NOK A) (il : i < A.length) (tr : TreeR D h A ρ) (hd : 1 ≤ d) : v55_count D d (ρ i) h (pI D h (fun v h' => v = nI (ndP (nat_ A i)).length ∧ h' = h) no) := by
  obtain ⟨e, rfl, he⟩ := dsucc hd
  have nr := tr i il
  have sh := (hA i il).2.2.1
  have op := fun {k : Nat} (z : jkd h (ρ i) = k) => nkd_op sh.op (nr.2.1.symm.trans z)
  have none : ∀ {k : Nat}, jkd h (ρ i) = k → (k = 20 ∨ k = 24 ∨ k = 25) → cX24_count D (e + 1) (ρ i) h (pI D h (fun v h' => v = nI (ndP (nat_ A i)).length ∧ h' = h) no) := fun z k =>
    t_X24_count (show pI D h (fun v h' => v = nI (ndP (nat_ A i)).length ∧ h' = h) no (.inl (some (vI 0))) h from endI fun _ _ => ⟨by have := op z; rw [sh.nil (by omega)]; rfl, rfl⟩)
  have many : ∀ {k : Nat}, jkd h (ρ i) = k → (k = 21 ∨ k = 22 ∨ k = 23 ∨ k = 29) → cX26_count D (e + 1) (ρ i) h (pI D h (fun v h' => v = nI (ndP (nat_ A i)).length ∧ h' = h) no) := fun z k =>
    t_X26_count ⟨nr.1, endI fun _ _ => ⟨(nr.2.2.2.2.2.2.2.1 (by have := op z; omega)).2.2.1, rfl⟩⟩
  refine ⟨fun z => none z (by omega), fun z => many z (by omega), fun z => many z (by omega), fun z => many z (by omega), fun z => none z (by omega), fun z => none z (by omega), fun z => ?_, fun z => ?_, fun z => ?_, fun z => many z (by omega)⟩
  · exact t_X32_count (show pI D h (fun v h' => v = nI (ndP (nat_ A i)).length ∧ h' = h) no (.inl (some (vI 1))) h from endI fun _ _ => ⟨by have := op z; rw [sh.one (by omega)]; rfl, rfl⟩)
  · exact t_X33_count (show pI D h (fun v h' => v = nI (ndP (nat_ A i)).length ∧ h' = h) no (.inl (some (vI 2))) h from endI fun _ _ => ⟨by have := op z; rw [sh.two (by omega)]; rfl, rfl⟩)
  · exact t_X34_count (show pI D h (fun v h' => v = nI (ndP (nat_ A i)).length ∧ h' = h) no (.inl (some (vI 1))) h from endI fun _ _ => ⟨by have := op z; rw [sh.one (by omega)]; rfl, rfl⟩)
/-- the part k -/
theorem w_prt {k p : Nat} (hA : NOK A) (il : i < A.length) (tr : TreeR D h A ρ) (hk : (ndP (nat_ A i))[k]? = some p) (hd : 1 ≤ d) : v55_part D d (ρ i) (nI k) h (pR D h 55 (fun v h' => v = ρ p ∧ h' = h) no) := by
  obtain ⟨e, rfl, he⟩ := dsucc hd
  have nr := tr i il
  have sh := (hA i il).2.2.1
  have kl := (List.getElem?_eq_some_iff.mp hk).1
  have op := fun {k : Nat} (z : jkd h (ρ i) = k) => nkd_op sh.op (nr.2.1.symm.trans z)
  have none : ∀ {k : Nat}, jkd h (ρ i) = k → (k = 20 ∨ k = 24 ∨ k = 25) → False := fun z k => by
    have := op z
    rw [sh.nil (by omega)] at kl
    exact absurd kl (Nat.not_lt_zero _)
  have many : ∀ {k' : Nat}, jkd h (ρ i) = k' → (k' = 21 ∨ k' = 22 ∨ k' = 23 ∨ k' = 29) → cX26_part D (e + 1) (ρ i) (nI k) h (pR D h 55 (fun v h' => v = ρ p ∧ h' = h) no) := fun z k' => by
    obtain ⟨p1, p2, p3, p4, p5, p6⟩ := nr.2.2.2.2.2.2.2.1 (by have := op z; omega)
    refine t_X26_part ⟨nr.1, p1, jin_nI (by omega) (by omega), ?_⟩
    rw [ixn_nI (by omega), p6 k p hk]
    exact endR fun _ _ _ => ⟨rfl, rfl⟩
  have np : npt (nat_ A i) k = p := by unfold npt; rw [List.getD_eq_getElem?_getD, hk]; rfl
  refine ⟨fun z => (none z (by omega)).elim, fun z => many z (by omega), fun z => many z (by omega), fun z => many z (by omega), fun z => (none z (by omega)).elim, fun z => (none z (by omega)).elim, fun z => ?_, fun z => ?_, fun z => ?_, fun z => many z (by omega)⟩
  · have := op z
    rw [sh.one (by omega)] at kl
    have k0 : k = 0 := by omega
    rw [k0] at np
    refine t_X32_part ⟨nr.1, ?_⟩
    rw [(nr.2.2.2.2.2.2.2.2.2.2.2.2 (by omega)).2, np]
    exact endR fun _ _ _ => ⟨rfl, rfl⟩
  · have := op z
    rw [sh.two (by omega)] at kl
    have f7 := nr.2.2.2.2.2.2.2.2.2.2.1 (by omega)
    rcases (show k = 0 ∨ k = 1 by omega) with k0 | k0
    · rw [k0] at np ⊢
      refine t_X33_part ⟨fun z => absurd rfl z, fun _ => ⟨nr.1, ?_⟩⟩
      rw [f7.2.1, np]
      exact endR fun _ _ _ => ⟨rfl, rfl⟩
    · rw [k0] at np ⊢
      refine t_X33_part ⟨fun _ => ⟨nr.1, ?_⟩, fun z => absurd z (by decide)⟩
      rw [f7.2.2, np]
      exact endR fun _ _ _ => ⟨rfl, rfl⟩
  · have := op z
    rw [sh.one (by omega)] at kl
    have k0 : k = 0 := by omega
    rw [k0] at np
    refine t_X34_part ⟨nr.1, ?_⟩
    rw [(nr.2.2.2.2.2.2.2.2.2.2.2.1 (by omega)).1, np]
    exact endR fun _ _ _ => ⟨rfl, rfl⟩
/-- the parts are alike -/
def lkP (A : List Nod) (E : TEnv) (f i j : Nat) : Bool := (ndP (nat_ A i)).length == (ndP (nat_ A j)).length && ((ndP (nat_ A i)).zip (ndP (nat_ A j))).all fun q => tEqual A A E f q.1 q.2
/-- the nodes are alike, but for their parts -/
def lkN (E : TEnv) (a b : Nod) : Prop := ndO a = ndO b ∧ ndK a = ndK b ∧ (ndO a = 0 → vAlike (ndV a) (ndV b) = true) ∧ (ndO a = 3 → ndS a = ndS b) ∧ (ndO a = 2 → tFound E.1 (ndF a) (ndS a) = tFound E.1 (ndF b) (ndS b))
theorem tEq_eq : tEqual A A E (f + 1) i j = true ↔ lkN E (nat_ A i) (nat_ A j) ∧ lkP A E f i j = true := by
  unfold tEqual lkN lkP nat_
  simp only [Bool.and_eq_true, beq_iff_eq, Bool.or_eq_true, bne_iff_ne]
  constructor
  · rintro ⟨h1, h2, h3, h4, h5, h6, h7⟩
    exact ⟨⟨h1, h2, fun z => h4.resolve_left fun y => y z, fun z => h5.resolve_left fun y => y z, fun z => h6.resolve_left fun y => y z⟩, h3, h7⟩
  · rintro ⟨⟨h1, h2, h4, h5, h6⟩, h3, h7⟩
    refine ⟨h1, h2, h3, ?_, ?_, ?_, h7⟩
    · by_cases z : ndO (A.getD i nNone) = 0
      · exact Or.inr (h4 z)
      · exact Or.inl z
    · by_cases z : ndO (A.getD i nNone) = 3
      · exact Or.inr (h5 z)
      · exact Or.inl z
    · by_cases z : ndO (A.getD i nNone) = 2
      · exact Or.inr (h6 z)
      · exact Or.inl z
theorem lkN.kd {a b : Nod} (k : lkN E a b) : nkd a = nkd b := by
  obtain ⟨k1, k2, _, k4, _⟩ := k
  unfold nkd
  rw [← k1, ← k2]
  split
  all_goals first | rfl | skip
  rename_i o
  rw [k4 o]
/-- columns stand where they were found -/
def PlA (A : List Nod) (E : TEnv) (h : JH) (ρ : Nat → Nat) (i : Nat) : Prop := ∀ g, PlT A E h ρ g i
theorem PlA.part {p : Nat} (k : PlA A E h ρ i) (hp : p ∈ ndP (nat_ A i)) : PlA A E h ρ p := fun g => (k (g + 1)).2 p hp
theorem PlT.all (hA : NOK A) : ∀ (f i : Nat), i < f → i < A.length → PlT A E h ρ f i → PlA A E h ρ i
  | 0, i, hi, _, _ => absurd hi (Nat.not_lt_zero _)
  | f + 1, i, hi, il, k => fun g => by
    cases g with
    | zero => exact trivial
    | succ g =>
      refine ⟨k.1, fun p hp => ?_⟩
      have tp := (Til.lt (hA i il).2.1).2 p hp
      exact PlT.all hA f p (by omega) (by omega) (k.2 p hp) g
/-- the contract of like -/
def LKX (D : JD) (A : List Nod) (E : TEnv) (ρ : Nat → Nat) (h : JH) (f : Nat) : Prop :=
  ∀ i j d n, i < f → i < A.length → j < A.length → HB A n i → 2 * n + 10 ≤ d → PlA A E h ρ i → PlA A E h ρ j → v55_like D d (ρ i) (ρ j) h (pI D h (fun v h' => v = (if tEqual A A E f i j = true then 1 else 0) ∧ h' = h) no)
theorem w_lkL (hA : NOK A) (tr : TreeR D h A ρ) (IH : LKX D A E ρ h f) (hi : i < f + 1) (il : i < A.length) (jl : j < A.length) (hB : HB A (n + 1) i) (pi : PlA A E h ρ i) (pj : PlA A E h ρ j) (hd : 2 * n + 10 ≤ d) (hl : (ndP (nat_ A i)).length = (ndP (nat_ A j)).length) {b : Bool} :
    ∀ (m k : Nat), k + m = (ndP (nat_ A i)).length → b = (((ndP (nat_ A i)).zip (ndP (nat_ A j))).drop k).all (fun q => tEqual A A E f q.1 q.2) →
    L_X24_likeParts_15 D d (pI D h (fun v h' => v = (if b = true then 1 else 0) ∧ h' = h) no) (m + 1) (ρ i) (ρ j) (nI k) h
  | m, k, hkm, hb => by
    have nr := tr i il
    have l40 := (hA i il).2.2.1.len
    refine ⟨nr.1, useCnt (w_cnt hA il tr (by omega)) ?_⟩
    rintro v h1 hI1 _ ⟨rfl, he1⟩
    have he1 := he1.symm
    subst he1
    refine ⟨fun y => ?_, fun y => ⟨nr.1, ?_⟩⟩
    · have y := (nI_leI (by omega) (by omega)).mp y
      rw [List.drop_eq_nil_of_le (by rw [List.length_zip]; omega)] at hb
      exact endI fun _ _ => ⟨by rw [hb]; rfl, rfl⟩
    · have kl : k < (ndP (nat_ A i)).length := Nat.lt_of_not_le fun z => y ((nI_leI (by omega) (by omega)).mpr z)
      obtain ⟨m', rfl⟩ : ∃ m', m = m' + 1 := ⟨m - 1, by omega⟩
      have hp : (ndP (nat_ A i))[k]? = some (ndP (nat_ A i))[k] := List.getElem?_eq_getElem kl
      have hq : (ndP (nat_ A j))[k]? = some ((ndP (nat_ A j))[k]'(by omega)) := List.getElem?_eq_getElem (by omega)
      have hz : ((ndP (nat_ A i)).zip (ndP (nat_ A j)))[k]? = some ((ndP (nat_ A i))[k], (ndP (nat_ A j))[k]'(by omega)) := by rw [List.getElem?_zip_eq_some]; exact ⟨hp, hq⟩
      have hz' := List.getElem?_eq_some_iff.mp hz
      obtain ⟨zl, ze⟩ := hz'
      rw [List.drop_eq_getElem_cons zl, ze, List.all_cons] at hb
      generalize (ndP (nat_ A i))[k] = p at hp hb
      generalize (ndP (nat_ A j))[k]'(by omega) = q at hq hb
      have pm := List.mem_of_getElem? hp
      have qm := List.mem_of_getElem? hq
      have tp := (Til.lt (hA i il).2.1).2 p pm
      have tq := (Til.lt (hA j jl).2.1).2 q qm
      refine usePrt (w_prt hA il tr hp (by omega)) ?_
      rintro v h1 hI1 _ ⟨rfl, he1⟩
      have he1 := he1.symm
      subst he1
      refine ⟨(tr j jl).1, usePrt (w_prt hA jl tr hq (by omega)) ?_⟩
      rintro v h1 hI1 _ ⟨rfl, he1⟩
      have he1 := he1.symm
      subst he1
      refine ⟨(tr p (by omega)).1, useLike (IH p q d n (by omega) (by omega) (by omega) (hB p pm) hd (pi.part pm) (pj.part qm)) ?_⟩
      rintro v h1 hI1 _ ⟨rfl, he1⟩
      have he1 := he1.symm
      subst he1
      by_cases c : tEqual A A E f p q = true
      · rw [if_pos c]
        refine ⟨fun _ => ?_, fun z => absurd z (by decide)⟩
        rw [nI_1]
        exact w_lkL hA tr IH hi il jl hB pi pj hd hl m' (k + 1) (by omega) (by rw [hb]; simp only [c, Bool.true_and])
      · rw [if_neg c]
        refine ⟨fun z => absurd rfl z, fun _ => endI fun _ _ => ⟨?_, rfl⟩⟩
        rw [hb]
        simp only [Bool.eq_false_iff.mpr c, Bool.false_and]
        rfl
theorem w_lkP (hA : NOK A) (tr : TreeR D h A ρ) (IH : LKX D A E ρ h f) (hi : i < f + 1) (il : i < A.length) (jl : j < A.length) (hB : HB A (n + 1) i) (pi : PlA A E h ρ i) (pj : PlA A E h ρ j) (hd : 2 * n + 11 ≤ d) :
    cX24_likeParts D d (ρ i) (ρ j) h (pI D h (fun v h' => v = (if lkP A E f i j = true then 1 else 0) ∧ h' = h) no) := by
  obtain ⟨e, rfl, he⟩ := dsucc hd
  have nr := tr i il
  have l40 := (hA i il).2.2.1.len
  have l41 := (hA j jl).2.2.1.len
  refine t_X24_likeParts ⟨nr.1, useCnt (w_cnt hA il tr (by omega)) ?_⟩
  rintro v h1 hI1 _ ⟨rfl, he1⟩
  have he1 := he1.symm
  subst he1
  refine ⟨(tr j jl).1, useCnt (w_cnt hA jl tr (by omega)) ?_⟩
  rintro v h1 hI1 _ ⟨rfl, he1⟩
  have he1 := he1.symm
  subst he1
  refine ⟨fun y => ?_, fun y => endI fun _ _ => ⟨?_, rfl⟩⟩
  · have hl := (nI_eq (by omega) (by omega)).mp y
    exact ⟨(ndP (nat_ A i)).length + 1, w_lkL hA tr IH hi il jl hB pi pj (by omega) hl _ 0 (by omega) (by unfold lkP; rw [show ((ndP (nat_ A i)).length == (ndP (nat_ A j)).length) = true by simpa using hl, Bool.true_and, List.drop_zero])⟩
  · have hl : ¬ (ndP (nat_ A i)).length = (ndP (nat_ A j)).length := fun z => y (by rw [z])
    unfold lkP
    rw [show ((ndP (nat_ A i)).length == (ndP (nat_ A j)).length) = false by simpa using hl, Bool.false_and]; rfl
end
