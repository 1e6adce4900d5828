/-! the component: trees written alike, each kind -/
section
variable {D : JD} {h h' h'' hm h0 h1 h2 h3 hb : JH} {ρ : Nat → Nat} {A : List Nod} {E : TEnv} {d sc r x i j n f c q lo hi t : Nat}
/-- the post of like -/
def LQ (D : JD) (A : List Nod) (E : TEnv) (f i j : Nat) (h : JH) : JO → JH → Prop := pI D h (fun v h' => v = (if tEqual A A E f i j = true then 1 else 0) ∧ h' = h) no
theorem lq_no (e : ¬ lkN E (nat_ A i) (nat_ A j)) : LQ D A E (f + 1) i j h (.inl (some (vI 0))) h := endI fun _ _ => ⟨by rw [if_neg fun z => e (tEq_eq.mp z).1], rfl⟩
theorem lq_no' (e : ¬ lkN E (nat_ A i) (nat_ A j)) : jbo 0 ∧ LQ D A E (f + 1) i j h (.inl (some (vI 0))) h := ⟨jbo0, lq_no e⟩
theorem lq_nil (hi : ndP (nat_ A i) = []) (hj : ndP (nat_ A j) = []) (e : lkN E (nat_ A i) (nat_ A j)) : jbo 1 ∧ LQ D A E (f + 1) i j h (.inl (some (vI 1))) h :=
  ⟨jbo1, endI fun _ _ => ⟨by rw [if_pos (tEq_eq.mpr ⟨e, by unfold lkP; rw [hi, hj]; rfl⟩)], rfl⟩⟩
theorem lq_pts (hA : NOK A) (tr : TreeR D h A ρ) (IH : LKX D A E ρ h f) (hi : i < f + 1) (il : i < A.length) (jl : j < A.length) (hB : HB A (n + 1) i) (pi : PlA A E h ρ i) (pj : PlA A E h ρ j) (hd : 2 * n + 11 ≤ d) (e : (ndP (nat_ A i)).length = (ndP (nat_ A j)).length → lkN E (nat_ A i) (nat_ A j)) :
    cX24_likeParts D d (ρ i) (ρ j) h (pI D h (fun v h' => (v = 0 → jbo 0 ∧ LQ D A E (f + 1) i j h (.inl (some (vI 0))) h') ∧ (¬ v = 0 → jbo 1 ∧ LQ D A E (f + 1) i j h (.inl (some (vI 1))) h')) (jth (LQ D A E (f + 1) i j h))) := by
  refine useI0 (w_lkP hA tr IH hi il jl hB pi pj hd) ?_
  rintro v h1 hI1 _ ⟨rfl, he1⟩
  have he1 := he1.symm
  subst he1
  by_cases c : lkP A E f i j = true
  · rw [if_pos c]
    have l : (ndP (nat_ A i)).length = (ndP (nat_ A j)).length := by
      unfold lkP at c
      rw [Bool.and_eq_true] at c
      simpa using c.1
    exact ⟨fun z => absurd z (by decide), fun _ => ⟨jbo1, endI fun _ _ => ⟨by rw [if_pos (tEq_eq.mpr ⟨e l, c⟩)], rfl⟩⟩⟩
  · rw [if_neg c]
    exact ⟨fun _ => ⟨jbo0, endI fun _ _ => ⟨by rw [if_neg fun z => c (tEq_eq.mp z).2], rfl⟩⟩, fun z => absurd rfl z⟩
theorem opN_key {n : Nod} (sh : Shp n) (hn : ndO n = 6 ∨ ndO n = 9 ∨ ndO n = 10 ∨ ndO n = 11 ∨ ndO n = 14) : (ndO n = 6 ∧ ndK n = 0 ∧ opN n = 370) ∨ (ndO n = 9 ∧ ndK n ≤ 5 ∧ opN n = 364 + ndK n) ∨ (ndO n = 10 ∧ ndK n = 0 ∧ opN n = 371) ∨ (ndO n = 11 ∧ ndK n = 0 ∧ opN n = 372) ∨ (ndO n = 14 ∧ ((ndK n = 0 ∧ opN n = 361) ∨ (ndK n = 1 ∧ opN n = 362) ∨ (ndK n = 2 ∧ opN n = 358) ∨ (ndK n = 3 ∧ opN n = 359) ∨ (ndK n = 4 ∧ opN n = 360) ∨ (ndK n = 5 ∧ opN n = 363))) := by
  have kk : (ndO n = 9 ∨ ndO n = 14 → ndK n ≤ 5) ∧ (ndO n = 6 ∨ ndO n = 10 ∨ ndO n = 11 → ndK n = 0) := by
    rcases sh with h | h | h | h | h | h | h | h | h | h | h | h | h
    all_goals (have h1 := h.1; have h2 := h.2.1; first | omega | (constructor <;> intro z <;> omega))
  unfold opN
  rcases hn with o | o | o | o | o
  · rw [o]; exact Or.inl ⟨rfl, kk.2 (by omega), rfl⟩
  · rw [o]; exact Or.inr (Or.inl ⟨rfl, kk.1 (by omega), rfl⟩)
  · rw [o]; exact Or.inr (Or.inr (Or.inl ⟨rfl, kk.2 (by omega), rfl⟩))
  · rw [o]; exact Or.inr (Or.inr (Or.inr (Or.inl ⟨rfl, kk.2 (by omega), rfl⟩)))
  · rw [o]
    refine Or.inr (Or.inr (Or.inr (Or.inr ⟨rfl, ?_⟩)))
    have := kk.1 (by omega)
    rcases (show ndK n = 0 ∨ ndK n = 1 ∨ ndK n = 2 ∨ ndK n = 3 ∨ ndK n = 4 ∨ ndK n = 5 by omega) with y | y | y | y | y | y
    all_goals (rw [y]; simp)
theorem opN_inj {a b : Nod} (sa : Shp a) (sb : Shp b) (ha : ndO a = 6 ∨ ndO a = 9 ∨ ndO a = 10 ∨ ndO a = 11 ∨ ndO a = 14) (hb : ndO b = 6 ∨ ndO b = 9 ∨ ndO b = 10 ∨ ndO b = 11 ∨ ndO b = 14) (e : opN a = opN b) : ndO a = ndO b ∧ ndK a = ndK b := by
  have ka := opN_key sa ha
  have kb := opN_key sb hb
  omega
theorem opN_en {n : Nod} (sh : Shp n) (hn : ndO n = 6 ∨ ndO n = 9 ∨ ndO n = 10 ∨ ndO n = 11 ∨ ndO n = 14) : opN n < 373 ∧ jenm (opN n) = true := by
  have en : ∀ j, j < 373 → 358 ≤ j → jenm j = true := by decide +kernel
  have := opN_key sh hn
  exact ⟨by omega, en _ (by omega) (by omega)⟩
/-- at most three sources of at most ten columns -/
def EnB (E : TEnv) : Prop := E.1.length ≤ 3 ∧ ∀ t ∈ E.1, t.2.2.1.length ≤ 10
theorem w_like (hA : NOK A) (tr : TreeR D h A ρ) (hI : JInv D h) (eb : EnB E) : ∀ f, LKX D A E ρ h f
  | 0 => fun i j d n hi => absurd hi (Nat.not_lt_zero _)
  | f + 1 => fun i j d n hi il jl hB hd pi pj => by
    have IH := w_like hA tr hI eb f
    obtain ⟨n, rfl⟩ : ∃ m, n = m + 1 := by
      cases n with
      | zero => exact hB.elim
      | succ m => exact ⟨m, rfl⟩
    obtain ⟨e, rfl, he⟩ := dsucc (show 1 ≤ d by omega)
    have nr := tr i il
    have nj := tr j jl
    have sh := (hA i il).2.2.1
    have sj := (hA j jl).2.2.1
    have opi := fun {k : Nat} (z : jkd h (ρ i) = k) => nkd_op sh.op (nr.2.1.symm.trans z)
    have opj := fun {k : Nat} (z : jkd h (ρ j) = k) => nkd_op sj.op (nj.2.1.symm.trans z)
    have dif : ∀ {k : Nat}, jkd h (ρ i) = k → ¬ (ρ j ≠ 0 ∧ jkd h (ρ j) = k) → ¬ lkN E (nat_ A i) (nat_ A j) := fun {k} z y q => y ⟨nj.1, by rw [nj.2.1, ← q.kd, ← nr.2.1, z]⟩
    have triv : ∀ (a b : Nod), ndO a = ndO b → ndK a = ndK b → ndO a ≠ 0 → ndO a ≠ 3 → ndO a ≠ 2 → lkN E a b := fun a b h1 h2 h3 h4 h5 => ⟨h1, h2, fun z => absurd z h3, fun z => absurd z h4, fun z => absurd z h5⟩
    have pts := fun ee => lq_pts (d := e) hA tr IH hi il jl hB pi pj (by omega) ee
    have kz : ∀ {n : Nod}, Shp n → (ndO n = 5 ∨ ndO n = 7 ∨ ndO n = 12 ∨ ndO n = 13 ∨ ndO n = 0 ∨ ndO n = 2 → ndK n = 0) := fun {n} s z => by
      rcases s with h | h | h | h | h | h | h | h | h | h | h | h | h
      all_goals (have h1 := h.1; have h2 := h.2.1; first | omega | (exfalso; omega))
    refine ⟨fun z => ?_, fun z => ?_, fun z => ?_, fun z => ?_, fun z => ?_, fun z => ?_, fun z => ?_, fun z => ?_, fun z => ?_, fun z => ?_⟩
    · -- parameters
      have oi := opi z
      refine t_X25_like ⟨fun y => ?_, fun y => lq_no' (dif z y)⟩
      have oj := opj y.2
      refine ⟨Or.inr y.2, y.1, nr.1, ?_⟩
      rw [nj.2.2.2.2.1 (by omega), nr.2.2.2.2.1 (by omega)]
      have ki := sh.par (by omega)
      have kj := sj.par (by omega)
      refine ⟨fun g => lq_no' fun q => g (by rw [q.2.1]), fun g => ?_⟩
      have g := (nI_eq (by omega) (by omega)).mp g
      exact lq_nil (sh.nil (by omega)) (sj.nil (by omega)) (triv _ _ (by omega) (by omega) (by omega) (by omega) (by omega))
    · -- CASE
      have oi := opi z
      refine t_X27_like ⟨fun y => ⟨nr.1, pts fun l => ?_⟩, fun y => lq_no' (dif z y)⟩
      have oj := opj y.2
      have kw : ∀ {n : Nod}, Shp n → ndO n = 4 → ndK n ≤ 1 ∧ (ndP n).length % 2 = ndK n := fun {n} s o => by
        rcases s with h | h | h | h | h | h | h | h | h | h | h | h | h
        all_goals first | (obtain ⟨_, h2, w, h3, h4, h5⟩ := h; omega) | (exfalso; have := h.1; omega)
      have := kw sh (by omega)
      have := kw sj (by omega)
      exact triv _ _ (by omega) (by omega) (by omega) (by omega) (by omega)
    · -- aggregates
      have oi := opi z
      have fi := (nr.2.2.2.2.2.2.1 (by omega)).1 (nr.2.1.symm.trans z)
      refine t_X28_like ⟨fun y => ?_, fun y => lq_no' (dif z y)⟩
      have oj := opj y.2
      have fj := (nj.2.2.2.2.2.2.1 (by omega)).1 (nj.2.1.symm.trans y.2)
      refine ⟨Or.inr y.2, y.1, nr.1, fj.1.1, JW.up (n := 2) (fun w => useI0 (k_equals (d := w) fj.1 fi.1) ?_) (by omega)⟩
      rintro v h1 hI1 _ ⟨rfl, he1⟩
      have he1 := he1.symm
      subst he1
      by_cases c : ndS (nat_ A j) = ndS (nat_ A i)
      · rw [if_pos c]
        refine ⟨fun q => absurd q (by decide), fun _ => ⟨Or.inr y.2, ?_⟩⟩
        rw [fj.2.1, fi.2.1]
        have kk : ∀ {n : Nod}, Shp n → ndO n = 3 → ndK n ≤ 1 := fun {n} s o => by
          rcases s with h | h | h | h | h | h | h | h | h | h | h | h | h
          all_goals first | (have := h.2.2; omega) | (exfalso; have := h.1; omega)
        have := kk sh (by omega)
        have := kk sj (by omega)
        refine ⟨fun g => lq_no' fun q => g (by rw [q.2.1]), fun g => pts fun l => ?_⟩
        have g := (nI_eq (by omega) (by omega)).mp g
        exact ⟨by omega, by omega, fun q => by omega, fun _ => c.symm, fun q => by omega⟩
      · rw [if_neg c]
        exact ⟨fun _ => lq_no' fun q => c (q.2.2.2.1 (by omega)).symm, fun q => absurd rfl q⟩
    · -- functions
      have oi := opi z
      have fi := (nr.2.2.2.2.2.2.1 (by omega)).2 (nr.2.1.symm.trans z)
      refine t_X29_like ⟨fun y => ?_, fun y => lq_no' (dif z y)⟩
      have oj := opj y.2
      have fj := (nj.2.2.2.2.2.2.1 (by omega)).2 (nj.2.1.symm.trans y.2)
      refine ⟨Or.inr y.2, y.1, nr.1, fj.1, JW.up (n := 2) (fun w => useI0 (k_equals (d := w) fj fi) ?_) (by omega)⟩
      rintro v h1 hI1 _ ⟨rfl, he1⟩
      have he1 := he1.symm
      subst he1
      by_cases c : ndS (nat_ A j) = ndS (nat_ A i)
      · rw [if_pos c]
        refine ⟨fun q => absurd q (by decide), fun _ => pts fun l => ?_⟩
        have kk : ∀ {n : Nod}, Shp n → ndO n = 3 → ndK n ≤ 1 := fun {n} s o => by
          rcases s with h | h | h | h | h | h | h | h | h | h | h | h | h
          all_goals first | (have := h.2.2; omega) | (exfalso; have := h.1; omega)
        have := kk sh (by omega)
        have := kk sj (by omega)
        exact ⟨by omega, by omega, fun q => by omega, fun _ => c.symm, fun q => by omega⟩
      · rw [if_neg c]
        exact ⟨fun _ => lq_no' fun q => c (q.2.2.2.1 (by omega)).symm, fun q => absurd rfl q⟩
    · -- columns
      have oi := opi z
      refine t_X30_like ⟨fun y => ?_, fun y => lq_no (dif z y)⟩
      have oj := opj y.2
      obtain ⟨q, q1, q2, q3⟩ := (pi 1).1 (by omega)
      obtain ⟨q', q1', q2', q3'⟩ := (pj 1).1 (by omega)
      refine ⟨Or.inr y.2, y.1, nr.1, ?_⟩
      rw [q2, q3, q2', q3']
      have b1 : ∀ {q : Nat × Nat} {n : Nod}, tFound E.1 (ndF n) (ndS n) = [q] → q.1 < 3 ∧ q.2 < 10 := fun {q n} hq => by
        obtain ⟨tb, b1, b2⟩ := fnd_mem (q := q) (by rw [hq]; exact List.mem_singleton.mpr rfl)
        have := tColOf_lt b2
        have := eb.2 tb (List.mem_of_getElem? b1)
        have := (List.getElem?_eq_some_iff.mp b1).1
        have := eb.1
        omega
      have c1 := b1 q1
      have c2 := b1 q1'
      have no : q ≠ q' → ¬ lkN E (nat_ A i) (nat_ A j) := fun g w => by
        have := w.2.2.2.2 (by omega)
        rw [q1, q1'] at this
        exact g (List.head_eq_of_cons_eq this)
      refine ⟨fun g => lq_no' (no fun w => g (by rw [w])), fun g => ⟨fun g2 => lq_no' (no fun w => g2 (by rw [w])), fun g2 => ?_⟩⟩
      have g := (nI_eq (by omega) (by omega)).mp g
      have g2 := (nI_eq (by omega) (by omega)).mp g2
      have : q = q' := Prod.ext g.symm g2.symm
      exact lq_nil (sh.nil (by omega)) (sj.nil (by omega)) ⟨by omega, by rw [kz sh (by omega), kz sj (by omega)], fun q => by omega, fun q => by omega, fun _ => by rw [q1, q1', this]⟩
    · -- literals
      have oi := opi z
      refine t_X31_like ⟨fun y => ?_, fun y => lq_no' (dif z y)⟩
      have oj := opj y.2
      have fi := (nr.2.2.2.1 (by omega)).2
      have fj := (nj.2.2.2.1 (by omega)).2
      refine ⟨nr.1, y.1, fi.1.1, JW.up (n := 3) (fun w => useI0 (k_alike (d := w) fi fj) ?_) (by omega)⟩
      rintro v h1 hI1 _ ⟨rfl, he1⟩
      have he1 := he1.symm
      subst he1
      by_cases c : vAlike (ndV (nat_ A i)) (ndV (nat_ A j)) = true
      · rw [if_pos c]
        exact ⟨fun q => absurd q (by decide), fun _ => lq_nil (sh.nil (by omega)) (sj.nil (by omega)) ⟨by omega, by rw [kz sh (by omega), kz sj (by omega)], fun _ => c, fun q => by omega, fun q => by omega⟩⟩
      · rw [if_neg c]
        exact ⟨fun _ => lq_no' fun q => c (q.2.2.1 (by omega)), fun q => absurd rfl q⟩
    · -- NOT, minus
      have oi := opi z
      refine t_X32_like ⟨fun y => ?_, fun y => lq_no' (dif z y)⟩
      have oj := opj y.2
      refine ⟨Or.inr y.2, y.1, nr.1, ?_⟩
      rw [(nj.2.2.2.2.2.2.2.2.2.2.2.2 (by omega)).1, (nr.2.2.2.2.2.2.2.2.2.2.2.2 (by omega)).1]
      refine ⟨fun g => lq_no' fun q => g (by rw [q.1]), fun g => pts fun l => ?_⟩
      have : ndO (nat_ A i) = ndO (nat_ A j) := by
        by_cases a : ndO (nat_ A i) = 12
        · by_cases b : ndO (nat_ A j) = 12
          · omega
          · rw [if_pos a, if_neg b] at g; exact absurd g (by decide)
        · by_cases b : ndO (nat_ A j) = 12
          · rw [if_neg a, if_pos b] at g; exact absurd g (by decide)
          · omega
      exact triv _ _ this (by rw [kz sh (by omega), kz sj (by omega)]) (by omega) (by omega) (by omega)
    · -- pairs
      have oi := opi z
      refine t_X33_like ⟨fun y => ?_, fun y => lq_no' (dif z y)⟩
      have oj := opj y.2
      have hi' : ndO (nat_ A i) = 6 ∨ ndO (nat_ A i) = 9 ∨ ndO (nat_ A i) = 10 ∨ ndO (nat_ A i) = 11 ∨ ndO (nat_ A i) = 14 := by omega
      have hj' : ndO (nat_ A j) = 6 ∨ ndO (nat_ A j) = 9 ∨ ndO (nat_ A j) = 10 ∨ ndO (nat_ A j) = 11 ∨ ndO (nat_ A j) = 14 := by omega
      refine ⟨Or.inr y.2, y.1, nr.1, ?_⟩
      rw [(nj.2.2.2.2.2.2.2.2.2.2.1 hj').1, (nr.2.2.2.2.2.2.2.2.2.2.1 hi').1]
      refine ⟨fun g => lq_no' fun q => g ?_, fun g => pts fun l => ?_⟩
      · unfold opN
        rw [q.1, q.2.1]
      · have := opN_inj sh sj hi' hj' (kc_ne hI (opN_en sj hj') (opN_en sh hi') g).symm
        exact triv _ _ this.1 this.2 (by omega) (by omega) (by omega)
    · -- IS NULL
      have oi := opi z
      refine t_X34_like ⟨fun y => ?_, fun y => lq_no' (dif z y)⟩
      have oj := opj y.2
      refine ⟨Or.inr y.2, y.1, nr.1, ?_⟩
      rw [(nj.2.2.2.2.2.2.2.2.2.2.2.1 (by omega)).2.1, (nr.2.2.2.2.2.2.2.2.2.2.2.1 (by omega)).2.1]
      have kk : ∀ {n : Nod}, Shp n → ndO n = 8 → ndK n ≤ 1 := fun {n} s o => by
        rcases s with h | h | h | h | h | h | h | h | h | h | h | h | h
        all_goals first | (have := h.2.1; omega) | (exfalso; have := h.1; omega)
      have := kk sh (by omega)
      have := kk sj (by omega)
      refine ⟨fun g => lq_no' fun q => g (by rw [q.2.1]), fun g => pts fun l => ?_⟩
      have g := (nI_eq (by omega) (by omega)).mp g
      exact triv _ _ (by omega) (by omega) (by omega) (by omega) (by omega)
    · -- IN, BETWEEN
      have oi := opi z
      refine t_X35_like ⟨fun y => ?_, fun y => lq_no' (dif z y)⟩
      have oj := opj y.2
      refine ⟨Or.inr y.2, y.1, nr.1, ?_⟩
      have f5 : ∀ {k : Nat}, NodR D h ρ (nat_ A k) (ρ k) → (ndO (nat_ A k) = 5 ∨ ndO (nat_ A k) = 7) → jfi h 128 (ρ k) = if ndO (nat_ A k) = 5 then 0 else 1 := fun {k} nk o => by
        rcases o with o | o
        · rw [if_pos o]; exact nk.2.2.2.2.2.2.2.2.1 o
        · rw [if_neg (by omega)]; exact nk.2.2.2.2.2.2.2.2.2.1 o
      rw [f5 nj (by omega), f5 nr (by omega)]
      refine ⟨fun g => lq_no' fun q => g (by rw [q.1]), fun g => pts fun l => ?_⟩
      have : ndO (nat_ A i) = ndO (nat_ A j) := by
        by_cases a : ndO (nat_ A i) = 5
        · by_cases b : ndO (nat_ A j) = 5
          · omega
          · rw [if_pos a, if_neg b] at g; exact absurd g (by decide)
        · by_cases b : ndO (nat_ A j) = 5
          · rw [if_neg a, if_pos b] at g; exact absurd g (by decide)
          · omega
      exact triv _ _ this (by rw [kz sh (by omega), kz sj (by omega)]) (by omega) (by omega) (by omega)
end
