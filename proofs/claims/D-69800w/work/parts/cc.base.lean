/-! the component: all tables -/
section
variable {D : JD} {h h' h'' h0 h1 h2 : JH} {d ka kc nn RA k j q c t u r w B B' s : Nat} {tb : Tab} {T : List Tab} {nm : Str}
/-- the table k of the base B -/
def tba (h : JH) (B k : Nat) : Nat := jar h (jfr h 40 B) k
def BasW (D : JD) (h : JH) (B : Nat) : Prop := (B ≠ 0 ∧ (jkd h B = 114 ∨ jkd h B = 115)) ∧ (jfr h 40 B ≠ 0 ∧ jln h (jfr h 40 B) = 4) ∧ ∀ k, k < 4 → TabW D h (tba h B k)
def BasR (D : JD) (h : JH) (B : Nat) (T : List Tab) : Prop := BasW D h B ∧ (jfi h 41 B = nI T.length ∧ T.length ≤ 4) ∧ ∀ (k : Nat) tb, T[k]? = some tb → TabR D h (tba h B k) tb
theorem tbAt_lt {k : Nat} (e : tbAt T nm = some k) : k < T.length := by
  unfold tbAt at e
  exact (List.findIdx?_eq_some_iff_getElem.mp e).1
theorem w_findL {Q : JO → JH → Prop} (kb : BasR D h B T) (hs : StR h s nm) (hd : 2 ≤ d) (hQ : ∀ v, (tbAt T nm = none ∧ v = 0) ∨ (∃ k, tbAt T nm = some k ∧ v = tba h B k) → Q (.inl (some (vR 5 v))) h) :
    ∀ (m k : Nat), k + m = T.length → (∀ j tb, j < k → T[j]? = some tb → tb.1 ≠ nm) → L_X4_find_2 D d Q (m + 1) B s (nI k) h
  | m, k, hkm, hn => by
    obtain ⟨⟨⟨b1, b2⟩, ⟨b3, b4⟩, b5⟩, ⟨b6, b7⟩, b8⟩ := kb
    refine ⟨b1, fun y => ?_, fun y => ?_⟩
    · rw [b6] at y
      have y := (nI_leI (by omega) (by omega)).mp y
      refine hQ 0 (Or.inl ⟨?_, rfl⟩)
      unfold tbAt
      rw [List.findIdx?_eq_none_iff]
      intro tb ht
      obtain ⟨j, jl, hj⟩ := List.getElem_of_mem ht
      have := hn j tb (by omega) (by rw [List.getElem?_eq_getElem jl, hj])
      simpa using this
    · rw [b6] at y
      have kl : k < T.length := Nat.lt_of_not_le fun z => y ((nI_leI (by omega) (by omega)).mpr z)
      obtain ⟨m', rfl⟩ : ∃ m', m = m' + 1 := ⟨m - 1, by omega⟩
      have ht : T[k]? = some T[k] := List.getElem?_eq_getElem kl
      have tr := b8 k _ ht
      have ix : ixn (nI k) = k := ixn_nI (by omega)
      have jn : jin (nI k) (jln h (jfr h 40 B)) := by rw [b4]; exact jin_nI (by omega) (by decide)
      refine ⟨b3, jn, ?_⟩
      rw [ix]
      refine ⟨tr.1.1.1, tr.2.1.1, JW.up (n := 2) (fun y => useI0 (k_equals (d := y) tr.2.1 hs) ?_) hd⟩
      rintro v h1 hI1 _ ⟨rfl, he1⟩
      have he1 := he1.symm
      subst he1
      by_cases e : T[k].1 = nm
      · rw [if_pos e]
        refine ⟨fun z => absurd z (by decide), fun _ => ⟨b3, jn, ?_⟩⟩
        refine hQ _ (Or.inr ⟨k, ?_, rfl⟩)
        unfold tbAt
        rw [List.findIdx?_eq_some_iff_getElem]
        refine ⟨kl, by simpa using e, fun j hj => ?_⟩
        have := hn j _ hj (List.getElem?_eq_getElem (by omega))
        simpa using this
      · rw [if_neg e]
        refine ⟨fun _ => ?_, fun z => absurd rfl z⟩
        rw [nI_1]
        refine w_findL ⟨⟨⟨b1, b2⟩, ⟨b3, b4⟩, b5⟩, ⟨b6, b7⟩, b8⟩ hs hd hQ m' (k + 1) (by omega) fun j tb hj hjt => ?_
        by_cases z : j = k
        · rw [z, ht] at hjt
          cases hjt
          exact e
        · exact hn j tb (by omega) hjt
theorem w_find (kb : BasR D h B T) (hs : StR h s nm) (hd : 3 ≤ d) : cX4_find D d B s h (pR D h 5 (fun v h' => h' = h ∧ ((tbAt T nm = none ∧ v = 0) ∨ ∃ k, tbAt T nm = some k ∧ v = tba h B k)) no) := by
  obtain ⟨e, rfl, he⟩ := dsucc hd
  exact t_X4_find ⟨T.length + 1, w_findL kb hs (by omega) (fun v z => endR fun _ _ _ => ⟨rfl, z⟩) _ 0 (by omega) fun j tb hj => absurd hj (Nat.not_lt_zero _)⟩
theorem w_needed (kb : BasR D h B T) (hs : StR h s nm) (hd : 8 ≤ d) : cX4_needed D d B s h (pR D h 5 (fun v h' => h' = h ∧ ∃ k, tbNeed T nm = .ok k ∧ k < T.length ∧ tbAt T nm = some k ∧ v = tba h B k) (fun y h' => tbNeed T nm = .error (sStr "42P01") ∧ Flt h h' y (sStr "42P01"))) := by
  obtain ⟨e, rfl, he⟩ := dsucc hd
  refine t_X4_needed ⟨kb.1.1.1, useR0 (w_find kb hs (by omega)) ?_⟩
  rintro v h1 hI1 _ ⟨he1, hv⟩
  have he1 := he1.symm
  subst he1
  rcases hv with ⟨e1, rfl⟩ | ⟨k, e1, rfl⟩
  · refine ⟨fun z => absurd rfl z, fun _ => useR0 (w_fault (w := "42P01") ⟨by decide, by decide +kernel⟩ (by omega)) ?_⟩
    rintro y h2 hI2 _ ⟨y1, y2⟩
    refine ⟨y1, endX fun _ _ => ⟨?_, y2⟩⟩
    unfold tbNeed
    rw [e1]; rfl
  · have kl := tbAt_lt e1
    have tw := kb.1.2.2 k (by have := kb.2.1.2; omega)
    refine ⟨fun _ => endR fun _ _ _ => ⟨rfl, k, ?_, kl, e1, rfl⟩, fun z => absurd z tw.1.1⟩
    unfold tbNeed
    rw [e1]
/-- how many rows there are -/
theorem w_brows (kb : BasR D h B T) (hd : 1 ≤ d) : cX4_rows D d B h (pI D h (fun v h' => v = nI ((T.map fun t => (tbRows t).length).sum) ∧ h' = h) no) := by
  obtain ⟨e, rfl, he⟩ := dsucc hd
  obtain ⟨⟨⟨b1, b2⟩, ⟨b3, b4⟩, b5⟩, ⟨b6, b7⟩, b8⟩ := kb
  have go : ∀ (m k n : Nat), k + m = T.length → n + ((T.drop k).map fun t => (tbRows t).length).sum = (T.map fun t => (tbRows t).length).sum → L_X4_rows_4 D e (pI D h (fun v h' => v = nI ((T.map fun t => (tbRows t).length).sum) ∧ h' = h) no) (m + 1) B (nI n) (nI k) h := by
    intro m
    induction m with
    | zero =>
      intro k n hkm hn
      refine ⟨b1, fun _ => endI fun _ _ => ⟨?_, rfl⟩, fun y => ?_⟩
      · rw [List.drop_eq_nil_of_le (by omega)] at hn
        rw [← hn]; rfl
      · rw [b6] at y
        exact absurd ((nI_leI (by omega) (by omega)).mpr (by omega)) y
    | succ m ih =>
      intro k n hkm hn
      have kl : k < T.length := by omega
      have tr := b8 k _ (List.getElem?_eq_getElem kl)
      have ix : ixn (nI k) = k := ixn_nI (by omega)
      refine ⟨b1, fun y => ?_, fun y => ⟨b3, by rw [b4]; exact jin_nI (by omega) (by decide), ?_⟩⟩
      · rw [b6] at y
        have := (nI_leI (by omega) (by omega)).mp y
        omega
      · rw [ix]
        refine ⟨tr.1.1.1, ?_⟩
        show L_X4_rows_4 D e _ (m + 1) B (nI n + jfi h 46 (tba h B k)) (nI k + 1) h
        rw [tr.2.2.2.2.1.1, nI_add, nI_1]
        refine ih (k + 1) _ (by omega) ?_
        rw [List.drop_eq_getElem_cons kl, List.map_cons, List.sum_cons] at hn
        rw [← hn]
        unfold tbRows
        omega
  exact t_X4_rows ⟨T.length + 1, go T.length 0 0 (by omega) (by rw [List.drop_zero, Nat.zero_add])⟩
end
