/-! the component: CREATE, DROP, BEGIN and so on are checked -/
section
variable {D : JD} {h h' h'' h1 h2 : JH} {ρ : Nat → Nat} {A : List Nod} {q c r i v k j d e sc : Nat} {y : Stm} {T : List Tab} {pt : List Nat}
/-- the engine e with its tables T -/
def EnT (D : JD) (h : JH) (e : Nat) (T : List Tab) : Prop := (e ≠ 0 ∧ jkd h e = 3) ∧ jfr h 20 e ≠ 0 ∧ BasR D h (jfr h 20 e) T
theorem cDup_eq {l : List Col} (hk : k < l.length) : cDup (l.drop k) ((l.take k).map (·.1)) = if ((l.take k).any fun c => c.1 == l[k].1) = true then xErr "42701" else cDup (l.drop (k + 1)) ((l.take (k + 1)).map (·.1)) := by
  rw [List.drop_eq_getElem_cons hk]
  have e0 : ∀ acc : List Str, cDup (l[k] :: l.drop (k + 1)) acc = if acc.contains l[k].1 = true then xErr "42701" else cDup (l.drop (k + 1)) (acc ++ [l[k].1]) := fun acc => by
    rw [cDup]
  rw [e0]
  have e1 : ((l.take k).map (·.1)).contains l[k].1 = (l.take k).any fun c => c.1 == l[k].1 := by
    rw [Bool.eq_iff_iff, List.any_eq_true, List.contains_iff_mem, List.mem_map]
    constructor
    · rintro ⟨x, x1, x2⟩
      exact ⟨x, x1, by simpa using x2⟩
    · rintro ⟨x, x1, x2⟩
      exact ⟨x, x1, by simpa using x2⟩
  rw [e1, List.take_succ_eq_append_getElem hk, List.map_append]
  rfl
theorem w_crJ {Q : JO → JH → Prop} {K22 : Nat → Nat → Int32 → JH → Prop} (kc : CreR D h v y) (kl : k < (smC y).length) (hd : 7 ≤ d) (h1 : (((smC y).take k).any fun c => c.1 == (smC y)[k].1) = false → K22 v e (nI k + 1) h) (h2 : ∀ z h', JInv D h' → (((smC y).take k).any fun c => c.1 == (smC y)[k].1) = true → Flt h h' z (sStr "42701") → Q (.inr z) h') :
    ∀ (m j : Nat), j + m = k → ((((smC y).take k).any fun c => c.1 == (smC y)[k].1) = (((smC y).take k).drop j).any fun c => c.1 == (smC y)[k].1) → L_X21_check_32 D d Q K22 (m + 1) v e (nI k) (nI j) h
  | m, j, hjm, eq => by
    obtain ⟨z1, z2, z3, ⟨c1, c2, c3, c4, c5⟩, z5⟩ := kc
    refine ⟨fun g => ?_, fun g => ?_⟩
    · have g := (nI_leI (by omega) (by omega)).mp g
      rw [List.drop_eq_nil_of_le (by rw [List.length_take]; omega)] at eq
      exact h1 eq
    · have jl : j < k := Nat.lt_of_not_le fun z => g ((nI_leI (by omega) (by omega)).mpr z)
      obtain ⟨m', rfl⟩ : ∃ m', m = m' + 1 := ⟨m - 1, by omega⟩
      have hj : (smC y)[j]? = some ((smC y)[j]'(by omega)) := List.getElem?_eq_getElem (by omega)
      have hjt : ((smC y).take k)[j]? = some ((smC y)[j]'(by omega)) := by rw [List.getElem?_take, if_pos jl]; exact hj
      obtain ⟨gl, ge⟩ := List.getElem?_eq_some_iff.mp hjt
      rw [List.drop_eq_getElem_cons gl, ge, List.any_cons] at eq
      have ck := c5 k _ (List.getElem?_eq_getElem kl)
      have cj := c5 j _ hj
      generalize (smC y)[j]'(by omega) = cc at hj eq cj
      have ixk : ixn (nI k) = k := ixn_nI (by omega)
      have ixj : ixn (nI j) = j := ixn_nI (by omega)
      refine ⟨z1, c1, by rw [c3]; exact jin_nI (by omega) (by decide), ?_⟩
      rw [ixk, ixj]
      refine ⟨ck.1, by rw [c3]; exact jin_nI (by omega) (by decide), cj.1, ck.2.2.1.1, JW.up (n := 2) (fun dd => useI0 (k_equals (d := dd) ck.2.2.1 cj.2.2.1) ?_) (by omega)⟩
      rintro v3 h4 hI4 _ ⟨rfl, he4⟩
      have he4 := he4.symm
      subst he4
      by_cases ec : (smC y)[k].1 = cc.1
      · rw [if_pos ec]
        refine ⟨fun z => absurd z (by decide), fun _ => useR0 (w_fault (w := "42701") ⟨by decide, by decide +kernel⟩ hd) ?_⟩
        rintro z h6 hI6 _ ⟨y1, y2⟩
        exact ⟨y1, h2 z h6 hI6 (by rw [eq]; simp [ec]) y2⟩
      · rw [if_neg ec]
        refine ⟨fun _ => ?_, fun z => absurd rfl z⟩
        rw [nI_1]
        refine w_crJ ⟨z1, z2, z3, ⟨c1, c2, c3, c4, c5⟩, z5⟩ kl hd h1 h2 m' (j + 1) (by omega) (eq.trans ?_)
        rw [show (cc.1 == (smC y)[k].1) = false by simpa using fun z => ec z.symm, Bool.false_or]
theorem w_crK {Q : JO → JH → Prop} (eb : EnT D h e T) (kc : CreR D h v y) (hd : 7 ≤ d) {z : Ex Unit} (h1 : cDup (smC y) [] = .ok () → T.length ≠ 4 → Q (.inl none) h) (h2 : ∀ z h', JInv D h' → cDup (smC y) [] = .error (sStr "42701") → Flt h h' z (sStr "42701") → Q (.inr z) h') (h3 : ∀ z h', JInv D h' → cDup (smC y) [] = .ok () → T.length = 4 → Flt h h' z (sStr "54000") → Q (.inr z) h') :
    ∀ (m k : Nat), (smC y).length ≤ k + m → 1 ≤ k → k ≤ (smC y).length + 1 → cDup (smC y) [] = cDup ((smC y).drop k) (((smC y).take k).map (·.1)) → L_X21_check_22 D d Q (m + 1) v e (nI k) h
  | m, k, hkm, k1, k2, eq => by
    have kc0 := kc
    obtain ⟨z1, z2, z3, ⟨c1, c2, c3, c4, c5⟩, z5⟩ := kc
    refine ⟨z1, fun g => ?_, fun g => ?_⟩
    · rw [z5] at g
      have g := (nI_leI (by omega) (by omega)).mp g
      rw [List.drop_eq_nil_of_le g] at eq
      have eq : cDup (smC y) [] = .ok () := eq
      have l4 := eb.2.2.2.1.2
      refine ⟨eb.1.1, eb.2.1, fun g4 => ?_, fun g4 => ?_⟩
      · exact h1 eq fun z => g4 (by rw [eb.2.2.2.1.1, z]; rfl)
      · have l : T.length = 4 := (nI_eq (b := 4) (by omega) (by omega)).mp (by rw [← eb.2.2.2.1.1]; exact g4)
        refine useR0 (w_fault (w := "54000") ⟨by decide, by decide +kernel⟩ hd) ?_
        rintro z h6 hI6 _ ⟨y1, y2⟩
        exact ⟨y1, h3 z h6 hI6 eq l y2⟩
    · rw [z5] at g
      have kl : k < (smC y).length := Nat.lt_of_not_le fun z => g ((nI_leI (by omega) (by omega)).mpr z)
      obtain ⟨m', rfl⟩ : ∃ m', m = m' + 1 := ⟨m - 1, by omega⟩
      rw [cDup_eq kl] at eq
      refine ⟨k + 1, w_crJ kc0 kl hd (fun b => ?_) (fun z h' hI' b f => h2 z h' hI' (by rw [eq, if_pos b]; rfl) f) k 0 (by omega) (by rw [List.drop_zero])⟩
      rw [if_neg (by rw [b]; decide)] at eq
      rw [nI_1]
      exact w_crK (z := z) eb kc0 hd h1 h2 h3 m' (k + 1) (by omega) (by omega) (by omega) eq
theorem w_creCk (eb : EnT D h e T) (kc : CreR D h v y) (y0 : smK y = 0) (hd : 8 ≤ d) : cX21_check D d v e h (pV D h (fun h' => cOther T pt y = .ok [] ∧ h' = h) (fun z h' => ∃ c, cOther T pt y = .error c ∧ Flt h h' z c)) := by
  obtain ⟨d, rfl, he⟩ := dsucc hd
  have eo : cOther T pt y = (xMust ((tbAt T (smT y)).isNone) "42P07" >>= fun _ => cDup (smC y) [] >>= fun _ => xMust (T.length != 4) "54000" >>= fun _ => .ok []) := by
    unfold cOther
    rw [y0]; rfl
  refine t_X21_check ⟨eb.1.1, kc.1, eb.2.1, useR0 (w_find eb.2.2 kc.2.2.1 (by omega)) ?_⟩
  rintro v3 h3 hI3 _ ⟨he3, hv⟩
  have he3 := he3.symm
  subst he3
  rcases hv with ⟨e1, rfl⟩ | ⟨k, e1, rfl⟩
  · rw [e1] at eo
    have eo : cOther T pt y = (cDup (smC y) [] >>= fun _ => xMust (T.length != 4) "54000" >>= fun _ => .ok []) := eo
    refine ⟨fun _ => ⟨(smC y).length + 1, w_crK (z := .ok ()) eb kc (by omega) (fun g1 g2 => endV fun _ _ => ⟨?_, rfl⟩) (fun z h' _ g f => fun _ _ => ⟨_, ?_, f⟩) (fun z h' _ g1 g2 f => fun _ _ => ⟨_, ?_, f⟩) _ 1 (by omega) (by omega) (by omega) ?_⟩, fun z => absurd rfl z⟩
    · by_cases l0 : 0 < (smC y).length
      · have := cDup_eq (k := 0) l0
        rw [List.drop_zero, List.take_zero] at this
        exact this
      · have : smC y = [] := List.eq_nil_of_length_eq_zero (by omega)
        rw [this]; rfl
    · rw [eo, g1, ok_bind, show (T.length != 4) = true by simpa using g2]; rfl
    · rw [eo, g]; rfl
    · rw [eo, g1, ok_bind, g2]; rfl
  · have kl := tbAt_lt e1
    have tw := eb.2.2.1.2.2 k (by have := eb.2.2.2.1.2; omega)
    refine ⟨fun z => absurd z tw.1.1, fun _ => useR0 (w_fault (w := "42P07") ⟨by decide, by decide +kernel⟩ (by omega)) ?_⟩
    rintro z h6 hI6 _ ⟨y1, y2⟩
    refine ⟨y1, fun _ _ => ⟨_, ?_, y2⟩⟩
    rw [eo, e1]; rfl
theorem w_drpCk (eb : EnT D h e T) (kc : DrpR h v y) (y0 : smK y = 1) (hd : 9 ≤ d) : cX22_check D d v e h (pV D h (fun h' => cOther T pt y = .ok [] ∧ h' = h) (fun z h' => ∃ c, cOther T pt y = .error c ∧ Flt h h' z c)) := by
  obtain ⟨d, rfl, he⟩ := dsucc hd
  have eo : cOther T pt y = ((tbNeed T (smT y)).map fun _ => []) := by
    unfold cOther
    rw [y0]; rfl
  refine t_X22_check ⟨eb.1.1, kc.1, eb.2.1, useR (w_needed eb.2.2 kc.2.2 (by omega)) ?_ ?_⟩
  · rintro v3 h3 hI3 _ ⟨he3, k, e1, _⟩
    exact endV fun _ _ => ⟨by rw [eo, e1]; rfl, he3⟩
  · rintro z h3 hI3 _ ⟨e1, f⟩
    exact fun _ _ => ⟨_, by rw [eo, e1]; rfl, f⟩
end
