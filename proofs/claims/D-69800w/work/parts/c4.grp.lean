/-! the component: whether aggregates stand in a tree; what is grouped by -/
section
variable {D : JD} {h h' h'' hm h0 h1 h2 h3 hb : JH} {ρ : Nat → Nat} {A : List Nod} {E : TEnv} {d sc r x i j n f c q lo hi t : Nat} {gs : List Nat}
theorem useAgs {K K' : Int32 → JH → Prop} {X : Nat → JH → Prop} (k : v55_aggregates D d q h (pI D h K no)) (g : ∀ v h', JInv D h' → jle h h' → K v h' → K' v h') : v55_aggregates D d q h (pI D h K' X) := by
  obtain ⟨a1, a2, a3, a4, a5, a6, a7, a8, a9, a10⟩ := k
  exact ⟨fun z => useI0 (a1 z) g, fun z => useI0 (a2 z) g, fun z => useI0 (a3 z) g, fun z => useI0 (a4 z) g, fun z => useI0 (a5 z) g, fun z => useI0 (a6 z) g, fun z => useI0 (a7 z) g, fun z => useI0 (a8 z) g, fun z => useI0 (a9 z) g, fun z => useI0 (a10 z) g⟩
/-- the contract of aggregates -/
def AGX (D : JD) (A : List Nod) (ρ : Nat → Nat) (h : JH) (f : Nat) : Prop :=
  ∀ i d n, i < f → i < A.length → HB A n i → n + 3 ≤ d → v55_aggregates D d (ρ i) h (pI D h (fun v h' => v = (if tGathers A f i = true then 1 else 0) ∧ h' = h) no)
theorem tGs_eq : tGathers A (f + 1) i = ((ndO (nat_ A i) == 3 && tGather (ndS (nat_ A i))) || (ndP (nat_ A i)).any (tGathers A f)) := rfl
theorem w_agsL (hA : NOK A) (tr : TreeR D h A ρ) (IH : AGX D A ρ h f) (hi : i < f + 1) (il : i < A.length) (hB : HB A (n + 1) i) (hd : n + 3 ≤ d) {b : Bool} :
    ∀ (m k : Nat), k + m = (ndP (nat_ A i)).length → b = ((ndP (nat_ A i)).drop k).any (tGathers A f) → L_X24_aggregates_2 D d (pI D h (fun v h' => v = (if b = true then 1 else 0) ∧ h' = h) no) (m + 1) (ρ i) (nI k) h
  | m, k, hkm, hb => by
    have nr := tr i il
    have l40 := (hA i il).2.2.1.len
    refine ⟨nr.1, useCnt (w_cnt hA il tr (by omega)) ?_⟩
    rintro v h1 hI1 _ ⟨rfl, he1⟩
    have he1 := he1.symm
    subst he1
    refine ⟨fun y => ?_, fun y => ⟨nr.1, ?_⟩⟩
    · have y := (nI_leI (by omega) (by omega)).mp y
      rw [List.drop_eq_nil_of_le (by omega)] at hb
      exact endI fun _ _ => ⟨by rw [hb]; rfl, rfl⟩
    · have kl : k < (ndP (nat_ A i)).length := Nat.lt_of_not_le fun z => y ((nI_leI (by omega) (by omega)).mpr z)
      obtain ⟨m', rfl⟩ : ∃ m', m = m' + 1 := ⟨m - 1, by omega⟩
      have hp : (ndP (nat_ A i))[k]? = some (ndP (nat_ A i))[k] := List.getElem?_eq_getElem kl
      rw [List.drop_eq_getElem_cons kl, List.any_cons] at hb
      generalize (ndP (nat_ A i))[k] = p at hp hb
      have pm := List.mem_of_getElem? hp
      have tp := (Til.lt (hA i il).2.1).2 p pm
      refine usePrt (w_prt hA il tr hp (by omega)) ?_
      rintro v h1 hI1 _ ⟨rfl, he1⟩
      have he1 := he1.symm
      subst he1
      refine ⟨(tr p (by omega)).1, useAgs (IH p d n (by omega) (by omega) (hB p pm) hd) ?_⟩
      rintro v h1 hI1 _ ⟨rfl, he1⟩
      have he1 := he1.symm
      subst he1
      by_cases c : tGathers A f p = true
      · rw [if_pos c]
        refine ⟨fun z => absurd z (by decide), fun _ => endI fun _ _ => ⟨?_, rfl⟩⟩
        rw [hb]
        simp only [c, Bool.true_or, if_true]
      · rw [if_neg c]
        refine ⟨fun _ => ?_, fun z => absurd rfl z⟩
        rw [nI_1]
        exact w_agsL hA tr IH hi il hB hd m' (k + 1) (by omega) (by rw [hb]; simp only [Bool.eq_false_iff.mpr c, Bool.false_or])
theorem w_ags (hA : NOK A) (tr : TreeR D h A ρ) : ∀ f, AGX D A ρ h f
  | 0 => fun i d n hi => absurd hi (Nat.not_lt_zero _)
  | f + 1 => fun i d n hi il hB hd => by
    have IH := w_ags hA tr f
    obtain ⟨n, rfl⟩ : ∃ m, n = m + 1 := by
      cases n with
      | zero => exact hB.elim
      | succ m => exact ⟨m, rfl⟩
    obtain ⟨e, rfl, he⟩ := dsucc (show 1 ≤ d by omega)
    have nr := tr i il
    have sh := (hA i il).2.2.1
    have opi := fun {k : Nat} (z : jkd h (ρ i) = k) => nkd_op sh.op (nr.2.1.symm.trans z)
    have gen : (ndO (nat_ A i) == 3 && tGather (ndS (nat_ A i))) = false → cX24_aggregates D (e + 1) (ρ i) h (pI D h (fun v h' => v = (if tGathers A (f + 1) i = true then 1 else 0) ∧ h' = h) no) := fun g =>
      t_X24_aggregates ⟨(ndP (nat_ A i)).length + 1, w_agsL hA tr IH hi il hB (by omega) _ 0 (by omega) (by rw [tGs_eq, g, Bool.false_or, List.drop_zero])⟩
    have no3 : ndO (nat_ A i) ≠ 3 → (ndO (nat_ A i) == 3 && tGather (ndS (nat_ A i))) = false := fun o => by
      rw [show (ndO (nat_ A i) == 3) = false by simpa using o]; rfl
    refine ⟨fun z => ?_, fun z => ?_, fun z => ?_, fun z => ?_, fun z => ?_, fun z => ?_, fun z => ?_, fun z => ?_, fun z => ?_, fun z => ?_⟩
    · exact gen (no3 (by have := opi z; omega))
    · exact gen (no3 (by have := opi z; omega))
    · have oi := opi z
      have o3 : ndO (nat_ A i) = 3 := by omega
      have fi := (nr.2.2.2.2.2.2.1 o3).1 (nr.2.1.symm.trans z)
      refine t_X28_aggregates ⟨nr.1, useI0 (k_known fi.1 (by omega)) ?_⟩
      rintro v h1 hI1 _ ⟨rfl, he1⟩
      have he1 := he1.symm
      subst he1
      have nk : nkd (nat_ A i) = 22 := nr.2.1.symm.trans z
      have eq : tGathers A (f + 1) i = tGather (ndS (nat_ A i)) := by
        rw [tGs_eq, o3]
        by_cases g : tGather (ndS (nat_ A i)) = true
        · rw [g]; rfl
        · rw [Bool.eq_false_iff.mpr g]
          have k1 : ndK (nat_ A i) = 1 := by
            unfold nkd at nk
            rw [o3] at nk
            by_cases k : ndK (nat_ A i) = 1
            · exact k
            · have nk : (if ndK (nat_ A i) = 1 ∨ tGather (ndS (nat_ A i)) = true then 22 else 23) = 22 := nk
              rw [if_neg (fun y => y.elim k g)] at nk
              exact absurd nk (by decide)
          have pn : ndP (nat_ A i) = [] := by
            rcases sh with h | h | h | h | h | h | h | h | h | h | h | h | h
            all_goals first | (have := h.2.2; rcases this with y | y; omega; exact y.2) | (exfalso; have := h.1; omega)
          rw [pn]; rfl
      rw [eq]
      refine ⟨?_, endI fun _ _ => ⟨rfl, rfl⟩⟩
      by_cases g : tGather (ndS (nat_ A i)) = true
      · rw [if_pos g]; exact jbo1
      · rw [if_neg g]; exact jbo0
    · have oi := opi z
      exact gen (by
        rcases oi with y | y | y | y | y | y | y | y | y | y
        all_goals first | (rw [y.2.2.2]; simp) | (exfalso; omega))
    · exact gen (no3 (by have := opi z; omega))
    · exact gen (no3 (by have := opi z; omega))
    · exact gen (no3 (by have := opi z; omega))
    · exact gen (no3 (by have := opi z; omega))
    · exact gen (no3 (by have := opi z; omega))
    · exact gen (no3 (by have := opi z; omega))
/-- the groups in the scope -/
def GsR (h : JH) (sc : Nat) (ρ : Nat → Nat) (gs : List Nat) : Prop := sc ≠ 0 ∧ jfi h 54 sc = nI gs.length ∧ jfr h 53 sc ≠ 0 ∧ gs.length ≤ jln h (jfr h 53 sc) ∧ jln h (jfr h 53 sc) ≤ 100 ∧ ∀ (k g : Nat), gs[k]? = some g → jar h (jfr h 53 sc) k = ρ g
theorem tAp_eq : tApart A E gs (f + 1) i = (if (ndO (nat_ A i) == 3 && tGather (ndS (nat_ A i))) = true then .ok () else if (gs.any fun g => tEqual A A E (i + 1) i g) = true then .ok () else if (ndO (nat_ A i) == 2) = true then xErr "42803" else (ndP (nat_ A i)).forM (tApart A E gs f)) := rfl
/-- the contract of grouped -/
def GPX (D : JD) (A : List Nod) (E : TEnv) (ρ : Nat → Nat) (sc : Nat) (gs : List Nat) (h : JH) (f : Nat) : Prop :=
  ∀ i d n, i < f → i < A.length → HB A n i → 2 * n + (2 * n + 20) ≤ d → PlA A E h ρ i → cX24_grouped D d (ρ i) sc h (pV D h (fun h' => tApart A E gs f i = .ok () ∧ h' = h) (fun y h' => tApart A E gs f i = .error (sStr "42803") ∧ Flt h h' y (sStr "42803")))
theorem w_ungL (hA : NOK A) (tr : TreeR D h A ρ) (IH : GPX D A E ρ sc gs h f) (hi : i < f + 1) (il : i < A.length) (hB : HB A (n + 1) i) (pi : PlA A E h ρ i) (hd : 2 * n + (2 * n + 20) ≤ d) {z : Ex Unit} :
    ∀ (m k : Nat), k + m = (ndP (nat_ A i)).length → z = ((ndP (nat_ A i)).drop k).forM (tApart A E gs f) → L_X24_ungrouped_2 D d (pV D h (fun h' => z = .ok () ∧ h' = h) (fun y h' => z = .error (sStr "42803") ∧ Flt h h' y (sStr "42803"))) (m + 1) (ρ i) sc (nI k) h
  | m, k, hkm, hz => by
    have nr := tr i il
    have l40 := (hA i il).2.2.1.len
    refine ⟨nr.1, useCnt (w_cnt hA il tr (by omega)) ?_⟩
    rintro v h1 hI1 _ ⟨rfl, he1⟩
    have he1 := he1.symm
    subst he1
    refine ⟨fun y => ?_, fun y => ⟨nr.1, ?_⟩⟩
    · have y := (nI_leI (by omega) (by omega)).mp y
      rw [List.drop_eq_nil_of_le (by omega)] at hz
      exact endV fun _ _ => ⟨hz, rfl⟩
    · have kl : k < (ndP (nat_ A i)).length := Nat.lt_of_not_le fun z => y ((nI_leI (by omega) (by omega)).mpr z)
      obtain ⟨m', rfl⟩ : ∃ m', m = m' + 1 := ⟨m - 1, by omega⟩
      have hp : (ndP (nat_ A i))[k]? = some (ndP (nat_ A i))[k] := List.getElem?_eq_getElem kl
      rw [List.drop_eq_getElem_cons kl] at hz
      generalize (ndP (nat_ A i))[k] = p at hp hz
      have hz : z = (tApart A E gs f p >>= fun _ => ((ndP (nat_ A i)).drop (k + 1)).forM (tApart A E gs f)) := hz
      have pm := List.mem_of_getElem? hp
      have tp := (Til.lt (hA i il).2.1).2 p pm
      refine usePrt (w_prt hA il tr hp (by omega)) ?_
      rintro v h1 hI1 _ ⟨rfl, he1⟩
      have he1 := he1.symm
      subst he1
      refine ⟨(tr p (by omega)).1, useV (IH p d n (by omega) (by omega) (hB p pm) hd (pi.part pm)) ?_ ?_⟩
      · rintro h1 hI1 _ ⟨e1, he1⟩
        have he1 := he1.symm
        subst he1
        rw [e1] at hz
        rw [nI_1]
        exact w_ungL hA tr IH hi il hB pi hd m' (k + 1) (by omega) hz
      · rintro y h1 hI1 _ ⟨e1, e2⟩
        rw [e1] at hz
        exact fun _ _ => ⟨hz, e2⟩
theorem w_grpedL (hA : NOK A) (tr : TreeR D h A ρ) (hI : JInv D h) (eb : EnB E) (gr : GsR h sc ρ gs) (gl : ∀ g ∈ gs, g < A.length ∧ PlA A E h ρ g) (il : i < A.length) (hB : HB A (n + 1) i) (pi : PlA A E h ρ i) (hd : 2 * n + 13 ≤ d) {Q : JO → JH → Prop} (hQ : (gs.any fun g => tEqual A A E (i + 1) i g) = true → Q (.inl none) h) (hU : (gs.any fun g => tEqual A A E (i + 1) i g) = false → v55_ungrouped D d (ρ i) sc h (pV D h (fun h4 => W_X24_grouped_35 D d Q h4) (jth Q))) :
    ∀ (m k : Nat), k + m = gs.length → ((gs.any fun g => tEqual A A E (i + 1) i g) = (gs.drop k).any fun g => tEqual A A E (i + 1) i g) → L_X24_grouped_2 D d Q (m + 1) (ρ i) sc (nI k) h
  | m, k, hkm, hb => by
    have nr := tr i il
    obtain ⟨g0, g1, g2, g3, g4, g5⟩ := gr
    refine ⟨g0, fun y => ⟨nr.1, ?_⟩, fun y => ?_⟩
    · rw [g1] at y
      have y := (nI_leI (by omega) (by omega)).mp y
      rw [List.drop_eq_nil_of_le (by omega)] at hb
      exact hU hb
    · rw [g1] at y
      have kl : k < gs.length := Nat.lt_of_not_le fun z => y ((nI_leI (by omega) (by omega)).mpr z)
      obtain ⟨m', rfl⟩ : ∃ m', m = m' + 1 := ⟨m - 1, by omega⟩
      have hp : gs[k]? = some gs[k] := List.getElem?_eq_getElem kl
      rw [List.drop_eq_getElem_cons kl, List.any_cons] at hb
      generalize gs[k] = g at hp hb
      have gm := gl g (List.mem_of_getElem? hp)
      refine ⟨g2, jin_nI (by omega) (by omega), nr.1, ?_⟩
      rw [ixn_nI (by omega), g5 k g hp]
      refine useLike (w_like hA tr hI eb (i + 1) i g d (n + 1) (by omega) il gm.1 hB (by omega) pi gm.2) ?_
      rintro v h1 hI1 _ ⟨rfl, he1⟩
      have he1 := he1.symm
      subst he1
      by_cases c : tEqual A A E (i + 1) i g = true
      · rw [if_pos c]
        exact ⟨fun z => absurd z (by decide), fun _ => hQ (by rw [hb, c]; rfl)⟩
      · rw [if_neg c]
        refine ⟨fun _ => ?_, fun z => absurd rfl z⟩
        rw [nI_1]
        exact w_grpedL hA tr hI eb ⟨g0, g1, g2, g3, g4, g5⟩ gl il hB pi hd hQ hU m' (k + 1) (by omega) (by rw [hb, Bool.eq_false_iff.mpr c, Bool.false_or])
theorem w_grp (hA : NOK A) (tr : TreeR D h A ρ) (hI : JInv D h) (eb : EnB E) (gr : GsR h sc ρ gs) (gl : ∀ g ∈ gs, g < A.length ∧ PlA A E h ρ g) : ∀ f, GPX D A E ρ sc gs h f
  | 0 => fun i d n hi => absurd hi (Nat.not_lt_zero _)
  | f + 1 => fun i d n hi il hB hd pi => by
    have IH := w_grp hA tr hI eb gr gl f
    obtain ⟨n, rfl⟩ : ∃ m, n = m + 1 := by
      cases n with
      | zero => exact hB.elim
      | succ m => exact ⟨m, rfl⟩
    obtain ⟨e, rfl, he⟩ := dsucc (show 1 ≤ d by omega)
    have nr := tr i il
    have sh := (hA i il).2.2.1
    have opi := fun {k : Nat} (z : jkd h (ρ i) = k) => nkd_op sh.op (nr.2.1.symm.trans z)
    have ap := tAp_eq (A := A) (E := E) (gs := gs) (f := f) (i := i)
    refine t_X24_grouped ⟨gs.length + 1, w_grpedL hA tr hI eb gr gl il hB pi (by omega) (fun g => ?_) (fun g => ?_) _ 0 (by omega) (by rw [List.drop_zero])⟩
    · refine endV fun _ _ => ⟨?_, rfl⟩
      rw [ap]
      split
      · rfl
      · first | rfl | rw [if_pos g]
    · rw [if_neg (by rw [g]; decide : ¬ (gs.any fun g => tEqual A A E (i + 1) i g) = true)] at ap
      have ok : ∀ {h4 : JH}, (tApart A E gs (f + 1) i = .ok () ∧ h4 = h) → W_X24_grouped_35 D e (pV D h (fun h' => tApart A E gs (f + 1) i = .ok () ∧ h' = h) (fun y h' => tApart A E gs (f + 1) i = .error (sStr "42803") ∧ Flt h h' y (sStr "42803"))) h4 := fun k => endV fun _ _ => k
      obtain ⟨e', rfl, he'⟩ := dsucc (show 1 ≤ e by omega)
      have gen : (ndO (nat_ A i) == 3 && tGather (ndS (nat_ A i))) = false → ndO (nat_ A i) ≠ 2 → cX24_ungrouped D (e' + 1) (ρ i) sc h (pV D h (fun h4 => W_X24_grouped_35 D (e' + 1) (pV D h (fun h' => tApart A E gs (f + 1) i = .ok () ∧ h' = h) (fun y h' => tApart A E gs (f + 1) i = .error (sStr "42803") ∧ Flt h h' y (sStr "42803"))) h4) (jth (pV D h (fun h' => tApart A E gs (f + 1) i = .ok () ∧ h' = h) (fun y h' => tApart A E gs (f + 1) i = .error (sStr "42803") ∧ Flt h h' y (sStr "42803"))))) := fun g3 g2 => by
        rw [if_neg (by rw [g3]; decide), if_neg (by simpa using g2)] at ap
        refine useV (t_X24_ungrouped ⟨(ndP (nat_ A i)).length + 1, w_ungL hA tr IH hi il hB pi (by omega) _ 0 (by omega) (by rw [ap, List.drop_zero])⟩) (fun h4 _ _ k => ok k) fun y h4 _ _ k => ?_
        exact fun _ _ => k
      have no3 : ndO (nat_ A i) ≠ 3 → (ndO (nat_ A i) == 3 && tGather (ndS (nat_ A i))) = false := fun o => by
        rw [show (ndO (nat_ A i) == 3) = false by simpa using o]; rfl
      refine ⟨fun z => ?_, fun z => ?_, fun z => ?_, fun z => ?_, fun z => ?_, fun z => ?_, fun z => ?_, fun z => ?_, fun z => ?_, fun z => ?_⟩
      · have oi := opi z
        exact gen (no3 (by omega)) (by omega)
      · have oi := opi z
        exact gen (no3 (by omega)) (by omega)
      · have oi := opi z
        have o3 : ndO (nat_ A i) = 3 := by omega
        refine t_X28_ungrouped (fun _ _ => ok ⟨?_, rfl⟩)
        by_cases g : tGather (ndS (nat_ A i)) = true
        · rw [ap, if_pos (by rw [o3, g]; rfl)]
        · have nk : nkd (nat_ A i) = 22 := nr.2.1.symm.trans z
          have k1 : ndK (nat_ A i) = 1 := by
            unfold nkd at nk
            rw [o3] at nk
            by_cases k : ndK (nat_ A i) = 1
            · exact k
            · have nk : (if ndK (nat_ A i) = 1 ∨ tGather (ndS (nat_ A i)) = true then 22 else 23) = 22 := nk
              rw [if_neg (fun y => y.elim k g)] at nk
              exact absurd nk (by decide)
          have pn : ndP (nat_ A i) = [] := by
            rcases sh with h | h | h | h | h | h | h | h | h | h | h | h | h
            all_goals first | (have := h.2.2; rcases this with y | y; omega; exact y.2) | (exfalso; have := h.1; omega)
          rw [ap, if_neg (by rw [Bool.eq_false_iff.mpr g]; simp), if_neg (by rw [o3]; decide), pn]; rfl
      · have oi := opi z
        exact gen (by
          rcases oi with y | y | y | y | y | y | y | y | y | y
          all_goals first | (rw [y.2.2.2]; simp) | (exfalso; omega)) (by omega)
      · have oi := opi z
        have o2 : ndO (nat_ A i) = 2 := by omega
        refine t_X30_ungrouped (useR0 (w_fault (w := "42803") ⟨by decide, by decide +kernel⟩ (by omega)) ?_)
        rintro v h4 hI4 _ ⟨y1, y2⟩
        rw [if_neg (by rw [no3 (by omega)]; decide), if_pos (by rw [o2]; rfl)] at ap
        exact ⟨y1, fun _ _ => fun _ _ => ⟨ap, y2⟩⟩
      · have oi := opi z
        exact gen (no3 (by omega)) (by omega)
      · have oi := opi z
        exact gen (no3 (by omega)) (by omega)
      · have oi := opi z
        exact gen (no3 (by omega)) (by omega)
      · have oi := opi z
        exact gen (no3 (by omega)) (by omega)
      · have oi := opi z
        exact gen (no3 (by omega)) (by omega)
end
