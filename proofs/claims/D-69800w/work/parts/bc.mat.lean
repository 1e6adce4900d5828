/-! the component: characters of a cell, LIKE -/
section
variable {D : JD} {h h' h'' hm h0 : JH} {d a b c : Nat} {s p w : Str}
/-- the characters of a cell -/
def TxC (h : JH) (c : Nat) (s : Str) : Prop := c ≠ 0 ∧ jfr h 67 c ≠ 0 ∧ jln h (jfr h 67 c) = 40 ∧ s.length ≤ 40 ∧ jfi h 68 c = nI s.length ∧ ∀ i b, s[i]? = some b → jai h (jfr h 67 c) i = b ∧ jby b
theorem Cel.tx (k : Cel D h c (vTxt s)) : TxC h c s := by
  obtain ⟨k1, k2⟩ := k
  rcases k2 with ⟨e, _⟩ | ⟨_, _, k3⟩
  · have := congrArg Prod.fst e
    cases this
  · rcases k3 with ⟨b, e, _⟩ | ⟨n, e, _⟩ | ⟨s', e, k4, k5, k6, k7⟩
    · have := congrArg Prod.fst e
      cases this
    · have := congrArg Prod.fst e
      cases this
    · have es : s = s' := congrArg (fun v : Val => v.2.2) e
      subst es
      rcases k1.2.2.2.2 with z | z
      · exact absurd z k4
      · exact ⟨k1.1, k4, z.2.1, k5, k6, k7⟩
theorem jby_nw {x : Int32} (k : jby x) : narrow .byte (.int x) = .int x := by
  show Value.int x.toInt8.toInt32 = Value.int x
  rw [show x.toInt8.toInt32 = x from k]
theorem w_byteAt {i : Nat} {x : Int32} (k : TxC h c s) (hi : i < s.length) (hx : x = nI i) (hd : 1 ≤ d) : cX14_byteAt D d c x h (pI D h (fun v h' => s[i]? = some v ∧ h' = h) no) := by
  obtain ⟨e, rfl, he⟩ := dsucc hd
  obtain ⟨k1, k2, k3, k4, k5, k6⟩ := k
  subst hx
  have ei : s[i]? = some s[i] := List.getElem?_eq_getElem hi
  have ki := k6 i _ ei
  refine t_X14_byteAt ⟨k1, k2, by rw [k3]; exact jin_nI (by omega) (by omega), ?_⟩
  rw [ixn_nI (by omega), ki.1]
  exact ⟨jby_nw ki.2, endI fun _ _ => ⟨ei, rfl⟩⟩
theorem w_size (k : TxC h c s) (hd : 1 ≤ d) : cX14_size D d c h (pI D h (fun v h' => v = nI s.length ∧ h' = h) no) := by
  obtain ⟨e, rfl, he⟩ := dsucc hd
  refine t_X14_size ⟨k.1, endI fun _ _ => ⟨k.2.2.2.2.1, rfl⟩⟩
theorem w_mat109L {Q : JO → JH → Prop} {R : Bool} (kb : TxC h b p) (hd : 1 ≤ d) (hQ : Q (.inl (some (vI (if R = true then 1 else 0)))) h) : ∀ g j, p.length < g + j → j ≤ p.length → (p.drop j).all (· == 37) = R → L_X33_matches_109 D d Q g b (nI j) h
  | 0, j, h1, h2, _ => by exfalso; omega
  | g + 1, j, h1, h2, eR => by
    have pl := kb.2.2.2.1
    refine ⟨kb.1, useI0 (w_size kb hd) ?_⟩
    rintro v h3 _ _ ⟨rfl, he⟩
    have he := he.symm
    subst he
    refine ⟨fun z => ?_, fun z => ?_⟩
    · rw [nI_leI (by omega) (by omega)] at z
      have ej : j = p.length := by omega
      rw [ej, List.drop_length] at eR
      have eR : true = R := eR
      rw [← eR, if_pos rfl] at hQ
      refine ⟨kb.1, useI0 (w_size kb hd) ?_⟩
      rintro v h4 _ _ ⟨rfl, he⟩
      have he := he.symm
      subst he
      exact ⟨fun y => absurd (by rw [ej]) y, fun _ => ⟨jbo1, hQ⟩⟩
    · rw [nI_leI (by omega) (by omega)] at z
      have jl : j < p.length := by omega
      rw [List.drop_eq_getElem_cons jl, List.all_cons] at eR
      refine useI0 (w_byteAt kb jl rfl hd) ?_
      rintro v h4 _ _ ⟨ev, he⟩
      have he := he.symm
      subst he
      rw [List.getElem?_eq_getElem jl] at ev
      cases ev
      refine ⟨fun y => ?_, fun y => ?_⟩
      · rw [show (p[j] == 37) = false by simpa using y, Bool.false_and] at eR
        rw [← eR, if_neg (by simp)] at hQ
        refine ⟨kb.1, useI0 (w_size kb hd) ?_⟩
        rintro v h5 _ _ ⟨rfl, he⟩
        have he := he.symm
        subst he
        exact ⟨fun _ => ⟨jbo0, hQ⟩, fun w => absurd ((nI_eq (by omega) (by omega)).mp w) (by omega)⟩
      · rw [show (p[j] == 37) = true by simpa using y, Bool.true_and] at eR
        rw [nI_1]
        exact w_mat109L kb hd hQ g (j + 1) (by omega) (by omega) eR
/-- where the latest % stands -/
def StO (s p : Str) (x4 x5 : Int32) (j : Nat) : Option (Nat × Nat) → Option (Str × Str) → Prop
  | none, O => O = none ∧ x4 = -1
  | some q, O => O = some (s.drop q.2, p.drop (q.1 + 1)) ∧ x4 = nI q.1 ∧ x5 = nI q.2 ∧ q.1 < j ∧ j ≤ p.length ∧ q.2 < s.length
def muL (s p : Str) (j : Nat) : Option (Nat × Nat) → Nat
  | none => 41 * 1764 + (p.length - j)
  | some q => (p.length - (q.1 + 1)) * 1764 + (s.length - q.2) * 42 + (p.length - j)
theorem mu_ar {A B C X U V g : Nat} (m2 : A + 1764 ≤ B) (m3 : C ≤ 1680) (m4 : X ≤ 39) (hg : B + U + V < g + 1) : A + C + X < g := by omega
theorem mu_star {P S i j q1 q2 g : Nat} (h1 : q1 < j) (h2 : j < P) (h3 : P ≤ 40) (h4 : S ≤ 40) (hg : (P - (q1 + 1)) * 1764 + (S - q2) * 42 + (P - j) < g + 1) : (P - (j + 1)) * 1764 + (S - i) * 42 + (P - (j + 1)) < g := by
  have m1 : (P - (j + 1)) + 1 ≤ P - (q1 + 1) := by omega
  have m2 : (P - (j + 1)) * 1764 + 1764 ≤ (P - (q1 + 1)) * 1764 := by
    have := Nat.mul_le_mul_right 1764 m1
    rwa [Nat.succ_mul] at this
  have m3 : (S - i) * 42 ≤ 1680 := Nat.mul_le_mul_right 42 (show S - i ≤ 40 by omega)
  exact mu_ar m2 m3 (by omega) hg
theorem w_matL {Q : JO → JH → Prop} (ka : TxC h a s) (kb : TxC h b p) (hd : 1 ≤ d) (hQ : Q (.inl (some (vI (if vLike s p = true then 1 else 0)))) h) : ∀ g i j o O x4 x5, muL s p j o < g → i ≤ s.length → j ≤ p.length → StO s p x4 x5 j o O → LkI s p (s.drop i) (p.drop j) O → L_X33_matches_10 D d Q g a b (nI i) (nI j) x4 x5 h
  | 0, i, j, o, O, x4, x5, hg, _, _, _, _ => by exfalso; omega
  | g + 1, i, j, o, O, x4, x5, hg, hi, hj, so, k => by
    have sl := ka.2.2.2.1
    have pl := kb.2.2.2.1
    refine ⟨ka.1, useI0 (w_size ka hd) ?_⟩
    rintro v h3 _ _ ⟨rfl, he⟩
    have he := he.symm
    subst he
    refine ⟨fun z => ?_, fun z => ?_⟩
    · rw [nI_leI (by omega) (by omega)] at z
      rw [List.drop_eq_nil_of_le (by omega)] at k
      exact ⟨p.length + 1, w_mat109L kb hd hQ (p.length + 1) j (by omega) hj k.end.symm⟩
    · rw [nI_leI (by omega) (by omega)] at z
      have il : i < s.length := by omega
      rw [List.drop_eq_getElem_cons il] at k
      -- nothing fits here
      have s88 : vLike (s[i] :: s.drop (i + 1)) (p.drop j) = false → W_X33_matches_88 D d Q (L_X33_matches_10 D d Q g) a b x4 x5 h := fun hf => by
        cases o with
        | none =>
          obtain ⟨rfl, rfl⟩ := so
          have := k.none' hf
          rw [this] at hQ
          exact ⟨fun _ => hQ, fun y => absurd (by decide) y⟩
        | some q =>
          obtain ⟨rfl, rfl, rfl, q1, q2, q3⟩ := so
          refine ⟨fun y => absurd y (lt_nI (by omega)), fun _ => ?_⟩
          rw [List.drop_eq_getElem_cons q3] at k
          have kb' := k.back hf
          rw [nI_1, nI_1]
          by_cases c : q.2 + 1 < s.length
          · refine w_matL ka kb hd hQ g (q.2 + 1) (q.1 + 1) (some (q.1, q.2 + 1)) _ _ _ ?_ (by omega) (by omega) ⟨rfl, rfl, rfl, Nat.lt_succ_self _, by omega, c⟩ kb'
            unfold muL at hg ⊢
            dsimp only at hg ⊢
            omega
          · -- the text is at its end: one round more
            obtain ⟨g', rfl⟩ : ∃ g', g = g' + 1 := by
              unfold muL at hg
              dsimp only at hg
              exact ⟨g - 1, by omega⟩
            have e1 : q.2 + 1 = s.length := by omega
            refine ⟨ka.1, useI0 (w_size ka hd) ?_⟩
            rintro v h4 _ _ ⟨rfl, he⟩
            have he := he.symm
            subst he
            refine ⟨fun _ => ?_, fun y => ?_⟩
            · rw [List.drop_eq_nil_of_le (by omega)] at kb'
              exact ⟨p.length + 1, w_mat109L kb hd hQ (p.length + 1) (q.1 + 1) (by omega) (by omega) kb'.end.symm⟩
            · rw [nI_leI (by omega) (by omega)] at y
              exfalso; omega
      have s48 : (∀ x l, p.drop j = x :: l → x ≠ 37) → W_X33_matches_48 D d Q (L_X33_matches_10 D d Q g) a b (nI i) (nI j) x4 x5 h := fun hn => by
        refine ⟨kb.1, useI0 (w_size kb hd) ?_⟩
        rintro v h4 _ _ ⟨rfl, he⟩
        have he := he.symm
        subst he
        refine ⟨fun y => ?_, fun y => ?_⟩
        · rw [nI_leI (by omega) (by omega)] at y
          have ed : p.drop j = [] := List.drop_eq_nil_of_le y
          exact s88 (by rw [ed]; unfold vLike; rfl)
        · rw [nI_leI (by omega) (by omega)] at y
          have jl : j < p.length := by omega
          have ed : p.drop j = p[j] :: p.drop (j + 1) := List.drop_eq_getElem_cons jl
          have n37 := hn _ _ ed
          rw [ed] at k
          have s79 : (p[j] == 95 || p[j] == s[i]) = true → W_X33_matches_79 D d Q (L_X33_matches_10 D d Q g) a b (nI i) (nI j) x4 x5 h := fun hm => by
            show L_X33_matches_10 D d Q g a b (nI i + 1) (nI j + 1) x4 x5 h
            rw [nI_1, nI_1]
            refine w_matL ka kb hd hQ g (i + 1) (j + 1) o O x4 x5 ?_ (by omega) (by omega) ?_ (k.step n37 hm)
            · cases o with
              | none => unfold muL at hg ⊢; dsimp only at hg ⊢; omega
              | some q => unfold muL at hg ⊢; dsimp only at hg ⊢; omega
            · cases o with
              | none => exact so
              | some q =>
                obtain ⟨a1, a2, a3, a4, a5, a6⟩ := so
                exact ⟨a1, a2, a3, by omega, by omega, a6⟩
          refine useI0 (w_byteAt kb jl rfl hd) ?_
          rintro v5 h5 _ _ ⟨ev, he⟩
          have he := he.symm
          subst he
          rw [List.getElem?_eq_getElem jl] at ev
          cases ev
          refine ⟨fun w => s79 (by rw [w]; rfl), fun w => useI0 (w_byteAt kb jl rfl hd) ?_⟩
          rintro v6 h6 _ _ ⟨ev, he⟩
          have he := he.symm
          subst he
          rw [List.getElem?_eq_getElem jl] at ev
          cases ev
          refine ⟨ka.1, useI0 (w_byteAt ka il rfl hd) ?_⟩
          rintro v7 h7 _ _ ⟨ev, he⟩
          have he := he.symm
          subst he
          rw [List.getElem?_eq_getElem il] at ev
          cases ev
          refine ⟨fun u => s88 ?_, fun u => s79 (by rw [u]; simp)⟩
          rw [ed, vLike_c n37, show (p[j] == 95 || p[j] == s[i]) = false by simp [w, u], Bool.false_and]
      refine ⟨kb.1, useI0 (w_size kb hd) ?_⟩
      rintro v h4 _ _ ⟨rfl, he⟩
      have he := he.symm
      subst he
      refine ⟨fun y => s48 fun x l e => ?_, fun y => ?_⟩
      · rw [nI_leI (by omega) (by omega)] at y
        rw [List.drop_eq_nil_of_le (by omega)] at e
        cases e
      · rw [nI_leI (by omega) (by omega)] at y
        have jl : j < p.length := by omega
        have ed : p.drop j = p[j] :: p.drop (j + 1) := List.drop_eq_getElem_cons jl
        refine useI0 (w_byteAt kb jl rfl hd) ?_
        rintro v5 h5 _ _ ⟨ev, he⟩
        have he := he.symm
        subst he
        rw [List.getElem?_eq_getElem jl] at ev
        cases ev
        refine ⟨fun w => s48 fun x l e => by rw [ed] at e; cases e; exact w, fun w => ?_⟩
        rw [ed, w] at k
        rw [nI_1]
        refine w_matL ka kb hd hQ g i (j + 1) (some (j, i)) (some (s.drop i, p.drop (j + 1))) (nI j) (nI i) ?_ hi (by omega) ⟨rfl, rfl, rfl, Nat.lt_succ_self _, by omega, il⟩ ?_
        · cases o with
          | none => unfold muL at hg ⊢; dsimp only at hg ⊢; omega
          | some q =>
            exact mu_star so.2.2.2.1 jl pl sl hg
        · rw [List.drop_eq_getElem_cons il]
          exact k.star
theorem w_matches (ka : TxC h a s) (kb : TxC h b p) (hd : 2 ≤ d) : cX33_matches D d a b h (pI D h (fun v h' => v = (if vLike s p = true then 1 else 0) ∧ h' = h) no) := by
  obtain ⟨e, rfl, he⟩ := dsucc hd
  exact t_X33_matches ⟨muL s p 0 none + 1, w_matL ka kb he (endI fun _ _ => ⟨rfl, rfl⟩) (muL s p 0 none + 1) 0 0 none none (-1) 0 (Nat.lt_succ_self _) (Nat.zero_le _) (Nat.zero_le _) ⟨rfl, rfl⟩ LkI.start⟩
end
