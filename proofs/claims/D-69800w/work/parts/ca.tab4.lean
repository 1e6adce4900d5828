/-! the component: what is missing in a row, what may stand but once, rows that stay -/
section
variable {D : JD} {h h' h'' h0 h1 h2 : JH} {d ka kc nn RA k j q c t u r w : Nat} {tb : Tab}
/-- a row of cells holds these values -/
def RvR (D : JD) (h : JH) (ra : Nat) (vs : List Val) : Prop := ra ≠ 0 ∧ vs.length ≤ jln h ra ∧ jln h ra ≤ 24 ∧ ∀ (c : Nat) v, vs[c]? = some v → Cel D h (jar h ra c) v
theorem w_missL {ra : Nat} {vs : List Val} {Q : JO → JH → Prop} (kt : TabR D h t tb) (kr : RvR D h ra vs) (hl : vs.length = tb.2.1.length) (hd : 7 ≤ d) (h1 : rMiss tb.2.1 vs = false → Q (.inl none) h) (h2 : ∀ y h', JInv D h' → rMiss tb.2.1 vs = true → Flt h h' y (sStr "23502") → Q (.inr y) h') :
    ∀ (m k : Nat), k + m = tb.2.1.length → rMiss tb.2.1 vs = rMiss (tb.2.1.drop k) (vs.drop k) → L_X5_missing_2 D d Q (m + 1) t ra (nI k) h
  | m, k, hkm, e => by
    have w10 := kt.2.2.1.2.2.2.1
    refine ⟨kt.1.1.1, fun y => ?_, fun y => ?_⟩
    · rw [kt.2.2.2.1] at y
      have y := (nI_leI (by omega) (by omega)).mp y
      rw [List.drop_eq_nil_of_le (by omega)] at e
      exact h1 e
    · rw [kt.2.2.2.1] at y
      have kl : k < tb.2.1.length := Nat.lt_of_not_le fun z => y ((nI_leI (by omega) (by omega)).mpr z)
      obtain ⟨m', rfl⟩ : ∃ m', m = m' + 1 := ⟨m - 1, by omega⟩
      have hc : tb.2.1[k]? = some tb.2.1[k] := List.getElem?_eq_getElem kl
      have hv : vs[k]? = some (vs[k]'(by omega)) := List.getElem?_eq_getElem (by omega)
      rw [List.drop_eq_getElem_cons kl, List.drop_eq_getElem_cons (show k < vs.length by omega)] at e
      generalize tb.2.1[k] = cl at hc e
      generalize vs[k]'(by omega) = v at hv e
      have e : rMiss tb.2.1 vs = ((cl.2.2.1 && v.1 == 0) || rMiss (tb.2.1.drop (k + 1)) (vs.drop (k + 1))) := e
      obtain ⟨c1, c2, c3, c4, c5⟩ := kt.2.2.1
      have cr := c5 k cl hc
      have ix : ixn (nI k) = k := ixn_nI (by omega)
      refine ⟨c1, by rw [c3]; exact jin_nI (by omega) (by decide), ?_⟩
      rw [ix]
      have next : (cl.2.2.1 && v.1 == 0) = false → W_X5_missing_37 D d Q (L_X5_missing_2 D d Q (m' + 1)) t ra (nI k) h := fun g => by
        rw [g, Bool.false_or] at e
        unfold W_X5_missing_37
        rw [nI_1]
        exact w_missL kt kr hl hd h1 h2 m' (k + 1) (by omega) e
      refine ⟨cr.1, ?_⟩
      rw [cr.2.2.2.2.1]
      cases hb : cl.2.2.1 with
      | false => exact ⟨fun _ => next (by rw [hb]; rfl), fun z => absurd rfl z⟩
      | true =>
        have cv := kr.2.2.2 k v hv
        refine ⟨fun z => absurd z (by decide), fun _ => ⟨kr.1, jin_nI (by have := kr.2.1; omega) (by have := kr.2.2.1; omega), cv.1.1, JW.up (n := 1) (fun y => useI0 (k_cEmpty (d := y) cv) ?_) (by omega)⟩⟩
        rintro v3 h4 hI4 _ ⟨rfl, he4⟩
        have he4 := he4.symm
        subst he4
        by_cases v0 : v.1 = 0
        · rw [if_pos v0]
          refine ⟨fun z => absurd z (by decide), fun _ => useR0 (w_fault (w := "23502") ⟨by decide, by decide +kernel⟩ hd) ?_⟩
          rintro y h5 hI5 _ ⟨y1, y2⟩
          exact ⟨y1, h2 y h5 hI5 (by rw [e, hb]; simp [v0]) y2⟩
        · rw [if_neg v0]
          exact ⟨fun _ => next (by rw [hb]; simp [v0]), fun z => absurd rfl z⟩
theorem w_tmissing {ra : Nat} {vs : List Val} (kt : TabR D h t tb) (kr : RvR D h ra vs) (hl : vs.length = tb.2.1.length) (hd : 8 ≤ d) : cX5_missing D d t ra h (pV D h (fun h' => rMiss tb.2.1 vs = false ∧ h' = h) (fun y h' => rMiss tb.2.1 vs = true ∧ Flt h h' y (sStr "23502"))) := by
  obtain ⟨e, rfl, he⟩ := dsucc hd
  exact t_X5_missing ⟨tb.2.1.length + 1, w_missL kt kr hl (by omega) (fun z => endV fun _ _ => ⟨z, rfl⟩) (fun y h' _ z f => fun _ _ => ⟨z, f⟩) _ 0 (by omega) rfl⟩
/-! what may stand but once -/
theorem uS_eq {c : Nat} {rows : List (List Val)} (hk : k < rows.length) : uSame c (rows.drop k) (rows.take k) = (((rows[k].getD c vNull).1 != 0 && (rows.take k).any fun a => vAlike (rows[k].getD c vNull) (a.getD c vNull)) || uSame c (rows.drop (k + 1)) (rows.take (k + 1))) := by
  rw [List.drop_eq_getElem_cons hk, List.take_succ_eq_append_getElem hk]
  rfl
theorem w_sgJ {Q : JO → JH → Prop} {K2 : Nat → Int32 → JH → Prop} {K27 : Nat → Int32 → Int32 → JH → Prop} (kt : TabR D h t tb) (hw : c < tb.2.1.length) (kl : k < tb.2.2.length) (hd : 7 ≤ d)
    (h1 : (((tb.2.2[k].getD c vNull).1 != 0 && (tb.2.2.take k).any fun a => vAlike (tb.2.2[k].getD c vNull) (a.getD c vNull)) = false) → K27 t (nI c) (nI k + 1) h) (h2 : ∀ y h', JInv D h' → (((tb.2.2[k].getD c vNull).1 != 0 && (tb.2.2.take k).any fun a => vAlike (tb.2.2[k].getD c vNull) (a.getD c vNull)) = true) → Flt h h' y (sStr "23505") → Q (.inr y) h') :
    ∀ (m j : Nat), j + m = k → (((tb.2.2[k].getD c vNull).1 != 0 && (tb.2.2.take k).any fun a => vAlike (tb.2.2[k].getD c vNull) (a.getD c vNull)) = ((tb.2.2[k].getD c vNull).1 != 0 && ((tb.2.2.take k).drop j).any fun a => vAlike (tb.2.2[k].getD c vNull) (a.getD c vNull))) → L_X5_singles_37 D d Q K2 K27 (m + 1) t (nI c) (nI k) (nI j) h
  | m, j, hjm, e => by
    have w10 := kt.2.2.1.2.2.2.1
    have l100 := kt.2.2.2.2.1.2
    have ixk : ixn (nI k) = k := ixn_nI (by omega)
    have ixj : ixn (nI j) = j := ixn_nI (by omega)
    have ixc : ixn (nI c) = c := ixn_nI (by omega)
    refine ⟨fun y => ?_, fun y => ?_⟩
    · have y := (nI_leI (by omega) (by omega)).mp y
      rw [List.drop_eq_nil_of_le (by rw [List.length_take]; omega)] at e
      exact h1 (by rw [e]; simp)
    · have jl : j < k := Nat.lt_of_not_le fun z => y ((nI_leI (by omega) (by omega)).mpr z)
      obtain ⟨m', rfl⟩ : ∃ m', m = m' + 1 := ⟨m - 1, by omega⟩
      have hj : tb.2.2[j]? = some (tb.2.2[j]'(by omega)) := List.getElem?_eq_getElem (by omega)
      have hjt : (tb.2.2.take k)[j]? = some (tb.2.2[j]'(by omega)) := by rw [List.getElem?_take, if_pos jl]; exact hj
      obtain ⟨gl, ge⟩ := List.getElem?_eq_some_iff.mp hjt
      rw [List.drop_eq_getElem_cons gl, ge, List.any_cons] at e
      obtain ⟨rk, ck⟩ := kt.2.2.2.2.2 k _ (List.getElem?_eq_getElem kl)
      obtain ⟨rj, cj⟩ := kt.2.2.2.2.2 j _ hj
      have rwk := (kt.1.2.2 k (by omega)).resolve_left rk
      have rwj := (kt.1.2.2 j (by omega)).resolve_left rj
      have ck := ck c hw
      have cj := cj c hw
      generalize tb.2.2[j]'(by omega) = rowj at hj e cj
      have jk : jin (nI k) (jln h (jfr h 45 t)) := by rw [kt.1.2.1.2]; exact jin_nI (by omega) (by decide)
      have jj : jin (nI j) (jln h (jfr h 45 t)) := by rw [kt.1.2.1.2]; exact jin_nI (by omega) (by decide)
      have jc : jin (nI c) (jln h (jar h (jfr h 45 t) k)) := by rw [rwk.2.2.1]; exact jin_nI (by omega) (by decide)
      have jc' : jin (nI c) (jln h (jar h (jfr h 45 t) j)) := by rw [rwj.2.2.1]; exact jin_nI (by omega) (by decide)
      refine ⟨kt.1.1.1, kt.1.2.1.1, jk, ?_⟩
      rw [ixk, ixc]
      have next : ((tb.2.2[k].getD c vNull).1 != 0 && vAlike (tb.2.2[k].getD c vNull) (rowj.getD c vNull)) = false → W_X5_singles_84 D d Q K2 K27 (L_X5_singles_37 D d Q K2 K27 (m' + 1)) t (nI c) (nI k) (nI j) h := fun g => by
        unfold W_X5_singles_84
        rw [nI_1]
        refine w_sgJ kt hw kl hd h1 h2 m' (j + 1) (by omega) (e.trans ?_)
        rw [Bool.and_or_distrib_left, g, Bool.false_or]
      refine ⟨rk, jc, ck.1.1, JW.up (n := 1) (fun y => useI0 (k_cEmpty (d := y) ck) ?_) (by omega)⟩
      rintro v3 h4 hI4 _ ⟨rfl, he4⟩
      have he4 := he4.symm
      subst he4
      by_cases v0 : (tb.2.2[k].getD c vNull).1 = 0
      · rw [if_pos v0]
        exact ⟨fun _ => next (by rw [v0]; rfl), fun z => absurd z (by decide)⟩
      · rw [if_neg v0]
        refine ⟨fun z => absurd rfl z, fun _ => ⟨kt.1.2.1.1, jk, ?_⟩⟩
        rw [ixj]
        refine ⟨rk, jc, jj, rj, jc', ck.1.1, JW.up (n := 3) (fun y => useI0 (k_alike (d := y) ck cj) ?_) (by omega)⟩
        rintro v5 h5 hI5 _ ⟨rfl, he5⟩
        have he5 := he5.symm
        subst he5
        by_cases al : vAlike (tb.2.2[k].getD c vNull) (rowj.getD c vNull) = true
        · rw [if_pos al]
          refine ⟨fun z => absurd z (by decide), fun _ => useR0 (w_fault (w := "23505") ⟨by decide, by decide +kernel⟩ hd) ?_⟩
          rintro y h6 hI6 _ ⟨y1, y2⟩
          refine ⟨y1, h2 y h6 hI6 ?_ y2⟩
          rw [e, al]
          simpa using v0
        · rw [if_neg al]
          exact ⟨fun _ => next (by rw [Bool.eq_false_iff.mpr al]; simp), fun z => absurd rfl z⟩
theorem w_sgK {Q : JO → JH → Prop} {K2 : Nat → Int32 → JH → Prop} (kt : TabR D h t tb) (hw : c < tb.2.1.length) (hd : 7 ≤ d) (h1 : uSame c tb.2.2 [] = false → K2 t (nI c + 1) h) (h2 : ∀ y h', JInv D h' → uSame c tb.2.2 [] = true → Flt h h' y (sStr "23505") → Q (.inr y) h') :
    ∀ (m k : Nat), tb.2.2.length ≤ k + m → 1 ≤ k → k ≤ tb.2.2.length + 1 → uSame c tb.2.2 [] = uSame c (tb.2.2.drop k) (tb.2.2.take k) → L_X5_singles_27 D d Q K2 (m + 1) t (nI c) (nI k) h
  | m, k, hkm, k1, k2, e => by
    have l100 := kt.2.2.2.2.1.2
    refine ⟨kt.1.1.1, fun y => ?_, fun y => ?_⟩
    · rw [kt.2.2.2.2.1.1] at y
      by_cases kl : tb.2.2.length ≤ k
      · rw [List.drop_eq_nil_of_le kl] at e
        exact h1 e
      · exact absurd y (nI_ge (by omega) (by omega))
    · rw [kt.2.2.2.2.1.1] at y
      have kl : k < tb.2.2.length := Nat.lt_of_not_le fun z => y ((nI_leI (by omega) (by omega)).mpr z)
      obtain ⟨m', rfl⟩ : ∃ m', m = m' + 1 := ⟨m - 1, by omega⟩
      rw [uS_eq kl] at e
      refine ⟨k + 1, w_sgJ kt hw kl hd (fun g => ?_) (fun y h' hI' g f => h2 y h' hI' (by rw [e, g, Bool.true_or]) f) k 0 (by omega) (by rw [List.drop_zero])⟩
      rw [g, Bool.false_or] at e
      rw [nI_1]
      exact w_sgK kt hw hd h1 h2 m' (k + 1) (by omega) (by omega) (by omega) e
theorem w_sgL {Q : JO → JH → Prop} (kt : TabR D h t tb) (hd : 7 ≤ d) {b : Bool} (h1 : b = false → Q (.inl none) h) (h2 : ∀ y h', JInv D h' → b = true → Flt h h' y (sStr "23505") → Q (.inr y) h') :
    ∀ (m c : Nat), c + m = tb.2.1.length → b = ((tb.2.1.drop c).zipIdx c).any (fun q => q.1.2.2.2 && uSame q.2 tb.2.2 []) → L_X5_singles_2 D d Q (m + 1) t (nI c) h
  | m, c, hcm, e => by
    have w10 := kt.2.2.1.2.2.2.1
    refine ⟨kt.1.1.1, fun y => ?_, fun y => ?_⟩
    · rw [kt.2.2.2.1] at y
      have y := (nI_leI (by omega) (by omega)).mp y
      rw [List.drop_eq_nil_of_le (by omega)] at e
      exact h1 e
    · rw [kt.2.2.2.1] at y
      have cl : c < tb.2.1.length := Nat.lt_of_not_le fun z => y ((nI_leI (by omega) (by omega)).mpr z)
      obtain ⟨m', rfl⟩ : ∃ m', m = m' + 1 := ⟨m - 1, by omega⟩
      have hc : tb.2.1[c]? = some tb.2.1[c] := List.getElem?_eq_getElem cl
      rw [List.drop_eq_getElem_cons cl, List.zipIdx_cons, List.any_cons] at e
      generalize tb.2.1[c] = col at hc e
      obtain ⟨c1, c2, c3, c4, c5⟩ := kt.2.2.1
      have cr := c5 c col hc
      have ix : ixn (nI c) = c := ixn_nI (by omega)
      refine ⟨c1, by rw [c3]; exact jin_nI (by omega) (by decide), ?_⟩
      rw [ix]
      refine ⟨cr.1, ?_⟩
      rw [cr.2.2.2.2.2]
      have next : (col.2.2.2 && uSame c tb.2.2 []) = false → L_X5_singles_2 D d Q (m' + 1) t (nI c + 1) h := fun g => by
        rw [nI_1]
        exact w_sgL kt hd h1 h2 m' (c + 1) (by omega) (by rw [e]; simp only [g, Bool.false_or])
      cases hb : col.2.2.2 with
      | false =>
        refine ⟨fun z => absurd rfl z, fun _ => ?_⟩
        exact next (by rw [hb]; rfl)
      | true =>
        refine ⟨fun _ => ⟨tb.2.2.length + 1, w_sgK kt cl hd (fun g => next (by rw [g]; simp)) (fun y h' hI' g f => h2 y h' hI' (by rw [e]; simp [hb, g]) f) tb.2.2.length 1 (by omega) (by omega) (by omega) ?_⟩, fun z => absurd z (by decide)⟩
        by_cases l0 : 0 < tb.2.2.length
        · have := uS_eq (k := 0) (c := c) l0
          rw [List.drop_zero, List.take_zero] at this
          rw [this]
          simp
        · have : tb.2.2 = [] := List.eq_nil_of_length_eq_zero (by omega)
          rw [this]; rfl
theorem w_singles (kt : TabR D h t tb) (hd : 8 ≤ d) : cX5_singles D d t h (pV D h (fun h' => uSingles tb.2.1 tb.2.2 = .ok () ∧ h' = h) (fun y h' => uSingles tb.2.1 tb.2.2 = .error (sStr "23505") ∧ Flt h h' y (sStr "23505"))) := by
  obtain ⟨e, rfl, he⟩ := dsucc hd
  refine t_X5_singles ⟨tb.2.1.length + 1, w_sgL kt (by omega) (b := tb.2.1.zipIdx.any fun q => q.1.2.2.2 && uSame q.2 tb.2.2 []) (fun z => endV fun _ _ => ⟨?_, rfl⟩) (fun y h' _ z f => fun _ _ => ⟨?_, f⟩) _ 0 (by omega) (by rw [List.drop_zero])⟩
  · unfold uSingles
    rw [z]; rfl
  · unfold uSingles
    rw [z]; rfl
end
