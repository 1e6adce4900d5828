/-! the component: functions are checked -/
section
variable {D : JD} {h h' h'' hm h0 : JH} {ρ : Nat → Nat} {A : List Nod} {E : TEnv} {d sc r x i n f p q : Nat} {M : Nat → Prop} {wi : Bool} {ps ts : List Nat} {nm : Str}
theorem w_eq {j : Nat} {w : String} {a b : JH → Prop} {Q : JO → JH → Prop} (st : StR h q nm) (hj : j < 345 ∧ jcon j = sStr w) (hd : 2 ≤ d) (ha : nm = sStr w → a h) (hb : nm ≠ sStr w → b h) : cJ5_equals D d q (jcs D j) h (pI D h (fun v h' => (¬ v = 0 → a h') ∧ (v = 0 → b h')) (jth Q)) := by
  refine JW.inv fun hI => ?_
  have kc : StR h (jcs D j) (sStr w) := by rw [← hj.2]; exact k_const hI hj.1
  refine JW.up (n := 2) (fun z => useI0 (k_equals (d := z) st kc) ?_) hd
  rintro v h1 _ _ ⟨rfl, rfl⟩
  by_cases e : nm = sStr w
  · rw [if_pos e]
    exact ⟨fun _ => ha e, fun z => absurd z (by decide)⟩
  · rw [if_neg e]
    exact ⟨fun z => absurd rfl z, fun _ => hb e⟩
theorem w_eq' {j : Nat} {w : String} {a b : JH → Prop} {Q : JO → JH → Prop} (st : StR h q nm) (hj : j < 345 ∧ jcon j = sStr w) (hd : 2 ≤ d) (ha : nm = sStr w → a h) (hb : nm ≠ sStr w → b h) : cJ5_equals D d q (jcs D j) h (pI D h (fun v h' => (v = 0 → b h') ∧ (¬ v = 0 → a h')) (jth Q)) :=
  useI (w_eq (a := a) (b := b) (Q := Q) st hj hd ha hb) (fun _ _ _ _ z => ⟨z.2, z.1⟩) fun _ _ _ _ z => z
/-- how many parts a function may have -/
def knC (s : Str) (c : Nat) : Bool := if s = sStr "abs" ∨ s = sStr "length" ∨ s = sStr "upper" ∨ s = sStr "lower" then c == 1 else if s = sStr "substr" then c == 3 else if s = sStr "coalesce" then c != 0 else if s = sStr "nullif" then c == 2 else false
theorem kn_no {b : Bool} (h : b = false) : (if b = true then (1 : Int32) else 0) = 0 := by rw [h]; rfl
theorem kn_yes {b : Bool} (h : b = true) : (if b = true then (1 : Int32) else 0) = 1 := by rw [h]; rfl
theorem w_ca0 {c : Nat} {Q : JO → JH → Prop} (r0 : r ≠ 0) (st : StR h (jfr h 116 r) nm) (hc : jfi h 112 r = nI c) (cl : c ≤ 40) (hd : 2 ≤ d) (go : W_X29_check_144 D d Q r sc (if knC nm c = true then 1 else 0) h) : W_X29_check_0 D d Q r sc h := by
  have s0 := st.1
  have cq : ∀ k, k ≤ 40 → (jfi h 112 r = nI k ↔ c = k) := fun k hk => by rw [hc]; exact nI_eq (by omega) (by omega)
  have s48 : (nm = sStr "abs" ∨ nm = sStr "length" ∨ nm = sStr "upper" ∨ nm = sStr "lower") → W_X29_check_48 D d Q r sc h := fun z => by
    have e : knC nm c = (c == 1) := by unfold knC; rw [if_pos z]
    rw [e] at go
    refine ⟨r0, fun y => ?_, fun y => ?_⟩
    · rw [kn_no (by simpa using fun b => y ((cq 1 (by decide)).mpr b))] at go
      exact go
    · rw [kn_yes (by simpa using (cq 1 (by decide)).mp y)] at go
      exact go
  refine ⟨r0, s0, w_eq (w := "abs") st ⟨by decide, by decide +kernel⟩ hd (fun z => s48 (Or.inl z)) fun n1 => ⟨s0, w_eq (w := "length") st ⟨by decide, by decide +kernel⟩ hd (fun z => s48 (Or.inr (Or.inl z))) fun n2 => ⟨s0, w_eq (w := "upper") st ⟨by decide, by decide +kernel⟩ hd (fun z => s48 (Or.inr (Or.inr (Or.inl z)))) fun n3 => ⟨s0, w_eq' (w := "lower") st ⟨by decide, by decide +kernel⟩ hd (fun z => s48 (Or.inr (Or.inr (Or.inr z)))) fun n4 => ⟨s0, ?_⟩⟩⟩⟩⟩
  have na : ¬ (nm = sStr "abs" ∨ nm = sStr "length" ∨ nm = sStr "upper" ∨ nm = sStr "lower") := by
    rintro (z | z | z | z)
    · exact n1 z
    · exact n2 z
    · exact n3 z
    · exact n4 z
  refine w_eq' (w := "substr") st ⟨by decide, by decide +kernel⟩ hd (fun z => ?_) fun n5 => ⟨s0, ?_⟩
  · have e : knC nm c = (c == 3) := by unfold knC; rw [if_neg na, if_pos z]
    rw [e] at go
    refine ⟨fun y => ?_, fun y => ?_⟩
    · rw [kn_no (by simpa using fun b => y ((cq 3 (by decide)).mpr b))] at go
      exact go
    · rw [kn_yes (by simpa using (cq 3 (by decide)).mp y)] at go
      exact go
  refine w_eq' (w := "coalesce") st ⟨by decide, by decide +kernel⟩ hd (fun z => ?_) fun n6 => ⟨s0, ?_⟩
  · have e : knC nm c = (c != 0) := by unfold knC; rw [if_neg na, if_neg n5, if_pos z]
    rw [e] at go
    refine ⟨fun y => ?_, fun y => ?_⟩
    · rw [hc, show (0 : Int32) = nI 0 from rfl, nI_leI (by omega) (by decide)] at y
      rw [kn_no (by simp; omega)] at go
      exact go
    · rw [hc, show (0 : Int32) = nI 0 from rfl, nI_leI (by omega) (by decide)] at y
      rw [kn_yes (by simp; omega)] at go
      exact go
  refine w_eq' (w := "nullif") st ⟨by decide, by decide +kernel⟩ hd (fun z => ?_) fun n7 => ?_
  · have e : knC nm c = (c == 2) := by unfold knC; rw [if_neg na, if_neg n5, if_neg n6, if_pos z]
    rw [e] at go
    refine ⟨fun y => ?_, fun y => ?_⟩
    · rw [kn_no (by simpa using fun b => y ((cq 2 (by decide)).mpr b))] at go
      exact go
    · rw [kn_yes (by simpa using (cq 2 (by decide)).mp y)] at go
      exact go
  · have e : knC nm c = false := by unfold knC; rw [if_neg na, if_neg n5, if_neg n6, if_neg n7]
    rw [kn_no e] at go
    exact go
/-- what a plain function does with the types of its parts -/
def caS (s : Str) (ts : List Nat) : Ex Nat := tFits (ts.headD 0) (if s = sStr "abs" then 20 else 25) >>= fun _ => tAll (ts.drop 1) 20 >>= fun _ => .ok (if s = sStr "abs" ∨ s = sStr "length" then 20 else 25)
theorem tGather_no {s : Str} (h : tGather s = false) : s ≠ sStr "count" ∧ s ≠ sStr "sum" ∧ s ≠ sStr "min" ∧ s ≠ sStr "max" := by
  unfold tGather at h
  simp only [Bool.or_eq_false_iff, beq_eq_false_iff_ne] at h
  exact h
theorem tAll_cons {a w : Nat} {l : List Nat} : tAll (a :: l) w = (tFits a w >>= fun _ => tAll l w) := by
  rfl
theorem nmNe {s : Str} {a : String} (c : s = sStr a) (b : String) (h : (sStr a == sStr b) = false) : s ≠ sStr b := fun e => by
  rw [← c, e] at h
  simp at h
theorem ex_map {α β : Type} {x : Ex α} {b : β} : (x.map fun _ => b) = (x >>= fun _ => .ok b) := by cases x <;> rfl
theorem len1 {ts : List Nat} (h : (ts.length == 1) = true) : ∃ t, ts = [t] := by
  match ts, h with
  | [t], _ => exact ⟨t, rfl⟩
theorem tFun_call {s : Str} (hg : tGather s = false) : tFun E wi s false ts = (if knC s ts.length = true then (if s = sStr "coalesce" ∨ s = sStr "nullif" then tOne ts else caS s ts) else xErr "42883") := by
  obtain ⟨g1, g2, g3, g4⟩ := tGather_no hg
  have e0 : tFun E wi s false ts = (xMust (if s = sStr "abs" ∨ s = sStr "length" ∨ s = sStr "upper" ∨ s = sStr "lower" then ts.length == 1 else if s = sStr "nullif" then ts.length == 2 else if s = sStr "substr" then ts.length == 3 else if s = sStr "coalesce" then ts.length != 0 else false) "42883" >>= fun _ =>
      if s = sStr "abs" then (tAll ts 20 >>= fun _ => .ok 20) else if s = sStr "length" then (tAll ts 25 >>= fun _ => .ok 20) else if s = sStr "upper" ∨ s = sStr "lower" then (tAll ts 25 >>= fun _ => .ok 25) else if s = sStr "substr" then (tAll (ts.take 1) 25 >>= fun _ => tAll (ts.drop 1) 20 >>= fun _ => .ok 25) else tOne ts) := by
    unfold tFun
    simp only [hg, Bool.or_false, Bool.not_false, Bool.true_or, Bool.false_eq_true, if_false, Bool.or_eq_true, beq_iff_eq, g1, g2, g3, g4, false_or, ex_map]
    rfl
  rw [e0]
  by_cases c1 : s = sStr "abs"
  · have q1 : s = sStr "abs" ∨ s = sStr "length" ∨ s = sStr "upper" ∨ s = sStr "lower" := Or.inl c1
    have q2 : ¬ (s = sStr "coalesce" ∨ s = sStr "nullif") := by
      rintro (z | z)
      · exact nmNe c1 "coalesce" (by decide +kernel) z
      · exact nmNe c1 "nullif" (by decide +kernel) z
    have q3 : s = sStr "abs" ∨ s = sStr "length" := Or.inl c1
    have ek : knC s ts.length = (ts.length == 1) := by unfold knC; rw [if_pos q1]
    rw [ek, if_pos q1, if_pos c1, if_neg q2]
    unfold caS
    rw [if_pos c1, if_pos q3]
    cases hl : (ts.length == 1) with
    | false => rfl
    | true =>
      obtain ⟨t, rfl⟩ := len1 hl
      rw [tAll_one]; rfl
  by_cases c2 : s = sStr "length"
  · have q1 : s = sStr "abs" ∨ s = sStr "length" ∨ s = sStr "upper" ∨ s = sStr "lower" := Or.inr (Or.inl c2)
    have q2 : ¬ (s = sStr "coalesce" ∨ s = sStr "nullif") := by
      rintro (z | z)
      · exact nmNe c2 "coalesce" (by decide +kernel) z
      · exact nmNe c2 "nullif" (by decide +kernel) z
    have q3 : s = sStr "abs" ∨ s = sStr "length" := Or.inr c2
    have ek : knC s ts.length = (ts.length == 1) := by unfold knC; rw [if_pos q1]
    rw [ek, if_pos q1, if_neg c1, if_pos c2, if_neg q2]
    unfold caS
    rw [if_neg c1, if_pos q3]
    cases hl : (ts.length == 1) with
    | false => rfl
    | true =>
      obtain ⟨t, rfl⟩ := len1 hl
      rw [tAll_one]; rfl
  have q3 : ¬ (s = sStr "abs" ∨ s = sStr "length") := by
    rintro (z | z)
    · exact c1 z
    · exact c2 z
  by_cases c3 : s = sStr "upper" ∨ s = sStr "lower"
  · have q1 : s = sStr "abs" ∨ s = sStr "length" ∨ s = sStr "upper" ∨ s = sStr "lower" := Or.inr (Or.inr c3)
    have q2 : ¬ (s = sStr "coalesce" ∨ s = sStr "nullif") := by
      rcases c3 with c | c
      · rintro (z | z)
        · exact nmNe c "coalesce" (by decide +kernel) z
        · exact nmNe c "nullif" (by decide +kernel) z
      · rintro (z | z)
        · exact nmNe c "coalesce" (by decide +kernel) z
        · exact nmNe c "nullif" (by decide +kernel) z
    have ek : knC s ts.length = (ts.length == 1) := by unfold knC; rw [if_pos q1]
    rw [ek, if_pos q1, if_neg c1, if_neg c2, if_pos c3, if_neg q2]
    unfold caS
    rw [if_neg c1, if_neg q3]
    cases hl : (ts.length == 1) with
    | false => rfl
    | true =>
      obtain ⟨t, rfl⟩ := len1 hl
      rw [tAll_one]; rfl
  have q1 : ¬ (s = sStr "abs" ∨ s = sStr "length" ∨ s = sStr "upper" ∨ s = sStr "lower") := by
    rintro (z | z | z)
    · exact c1 z
    · exact c2 z
    · exact c3 z
  rw [if_neg q1, if_neg c1, if_neg c2, if_neg c3]
  by_cases c4 : s = sStr "nullif"
  · have n5 := nmNe c4 "substr" (by decide +kernel)
    have n6 := nmNe c4 "coalesce" (by decide +kernel)
    have ek : knC s ts.length = (ts.length == 2) := by unfold knC; rw [if_neg q1, if_neg n5, if_neg n6, if_pos c4]
    have q2 : s = sStr "coalesce" ∨ s = sStr "nullif" := Or.inr c4
    rw [ek, if_pos c4, if_neg n5, if_pos q2]
    cases (ts.length == 2) <;> rfl
  rw [if_neg c4]
  by_cases c5 : s = sStr "substr"
  · have n6 := nmNe c5 "coalesce" (by decide +kernel)
    have ek : knC s ts.length = (ts.length == 3) := by unfold knC; rw [if_neg q1, if_pos c5]
    have q2 : ¬ (s = sStr "coalesce" ∨ s = sStr "nullif") := by
      rintro (z | z)
      · exact n6 z
      · exact c4 z
    rw [ek, if_pos c5, if_pos c5, if_neg q2]
    unfold caS
    rw [if_neg c1, if_neg q3]
    cases hl : (ts.length == 3) with
    | false => rfl
    | true =>
      match ts, hl with
      | [t, u, v], _ =>
        show (tAll [t] 25 >>= fun _ => tAll [u, v] 20 >>= fun _ => Except.ok 25) = (tFits t 25 >>= fun _ => tAll [u, v] 20 >>= fun _ => Except.ok 25)
        rw [tAll_one]
  rw [if_neg c5, if_neg c5]
  by_cases c6 : s = sStr "coalesce"
  · have ek : knC s ts.length = (ts.length != 0) := by unfold knC; rw [if_neg q1, if_neg c5, if_pos c6]
    have q2 : s = sStr "coalesce" ∨ s = sStr "nullif" := Or.inl c6
    rw [ek, if_pos c6, if_pos q2]
    cases (ts.length != 0) <;> rfl
  · have ek : knC s ts.length = false := by unfold knC; rw [if_neg q1, if_neg c5, if_neg c6, if_neg c4]
    rw [ek, if_neg c6]; rfl
/-- the parts behind the first are numbers -/
theorem w_ca252 {ty : Nat} {Q : JO → JH → Prop} (P : PtT D h ρ r ps ts) (st : StR h (jfr h 116 r) nm) (hI : JInv D h) (hty : ty = if nm = sStr "abs" ∨ nm = sStr "length" then 20 else 25) (hd : 8 ≤ d) (hQ : tAll (ts.drop 1) 20 = .ok () → Q (.inl (some (vR 52 (tyc D ty)))) (wfr h 109 r (tyc D ty))) (hE : ∀ y h' c, JInv D h' → tAll (ts.drop 1) 20 = .error c → Flt h h' y c → Q (.inr y) h') :
    ∀ g k, ts.length + 1 < g + k → k ≤ ts.length ∨ k = 1 → tAll (ts.drop k) 20 = tAll (ts.drop 1) 20 → L_X29_check_252 D d Q g r (nI k) h
  | 0, k, h1, h2, _ => by
    exfalso
    rcases h2 with z | z
    · omega
    · omega
  | g + 1, k, h1, h2, eq => by
    have p4 := P.1.2.2.2.1
    have p5 := P.1.2.2.2.2.1
    have tl := P.2.2.1
    have fin : tAll (ts.drop 1) 20 = .ok () → ∀ t, t = tyc D ty → W_X29_check_315 D d Q r r t h := fun hok t ht => by
      subst ht
      refine ⟨P.2.1, ?_⟩
      rintro h3 rfl
      refine ⟨P.2.1, ?_⟩
      rw [show jfr (wfr h 109 r (tyc D ty)) 109 r = tyc D ty by rw [jfr_wfr, if_pos ⟨rfl, rfl⟩]]
      exact hQ hok
    refine ⟨P.2.1, fun z => ?_, fun z => ?_⟩
    · rw [P.1.2.2.1, nI_leI (by omega) (by omega)] at z
      rw [List.drop_eq_nil_of_le (by omega)] at eq
      have hok : tAll (ts.drop 1) 20 = .ok () := eq.symm
      refine ⟨st.1, w_eq (w := "abs") st ⟨by decide, by decide +kernel⟩ (by omega) (fun y => fin hok _ ?_) fun n1 => ⟨st.1, w_eq' (w := "length") st ⟨by decide, by decide +kernel⟩ (by omega) (fun y => fin hok _ ?_) fun n2 => fin hok _ ?_⟩⟩
      · rw [hty, if_pos (Or.inl y)]; rfl
      · rw [hty, if_pos (Or.inr y)]; rfl
      · have nb : ¬ (nm = sStr "abs" ∨ nm = sStr "length") := by
          rintro (b | b)
          · exact n1 b
          · exact n2 b
        rw [hty, if_neg nb]; rfl
    · rw [P.1.2.2.1, nI_leI (by omega) (by omega)] at z
      have kl : k < ts.length := by omega
      obtain ⟨p, e1, e2, e3, e4, e5⟩ := P.at kl
      rw [List.drop_eq_getElem_cons kl, tAll_cons] at eq
      rw [ixn_nI (by omega), e2, e4]
      refine ⟨P.1.1, jin_nI (by omega) (by omega), e3, useV (w_tneed e5 ty20 hd) ?_ ?_⟩
      · rintro h3 hI3 _ ⟨f3, he⟩
        have he := he.symm
        subst he
        rw [f3] at eq
        rw [nI_1]
        exact w_ca252 P st hI hty hd hQ hE g (k + 1) (by omega) (by omega) eq
      · rintro y h3 hI3 _ ⟨f3, x3⟩
        rw [f3] at eq
        exact hE y h3 _ hI3 eq.symm x3
theorem ck_call (hA : NOK A) (ri : RI ρ A.length) (IH : CKX D A E ρ sc f) (hi : i < f + 1) (il : i < A.length) (hb : HB A (n + 1) i) (o : ndO (nat_ A i) = 3) (hk : ndK (nat_ A i) = 0) (hg : tGather (ndS (nat_ A i)) = false) (tr : TreeR D h A ρ) (sC : ScC D h sc E) (hw : jfi h 52 sc = (if wi = true then 1 else 0)) (hd : n + 13 ≤ d) :
    cX29_check D d (ρ i) sc h (pR D h 52 (CkOk D A E ρ sc (f + 1) i h (tTree A E (f + 1) wi i)) (CkEr A ρ sc i h (tTree A E (f + 1) wi i))) := by
  obtain ⟨e, rfl, he⟩ := dsucc hd
  have sh := (hA i il).2.2.1
  have mi : NM A ρ (ndL (nat_ A i)) (i + 1) (ρ i) := nmI il (hA i il).1 (by omega) (by omega)
  have o4 : ndO (nat_ A i) = 3 ∨ ndO (nat_ A i) = 4 ∨ ndO (nat_ A i) = 5 ∨ ndO (nat_ A i) = 7 := Or.inl o
  have nk : nkd (nat_ A i) = 23 := by
    unfold nkd
    rw [o]
    show (if ndK (nat_ A i) = 1 ∨ tGather (ndS (nat_ A i)) = true then 22 else 23) = 23
    rw [if_neg (by rintro (z | z); omega; rw [hg] at z; cases z)]
  have eqT : tTree A E (f + 1) wi i = ((ndP (nat_ A i)).mapM (tTree A E f wi) >>= fun ts => if knC (ndS (nat_ A i)) ts.length = true then (if ndS (nat_ A i) = sStr "coalesce" ∨ ndS (nat_ A i) = sStr "nullif" then tOne ts else caS (ndS (nat_ A i)) ts) else xErr "42883") := by
    rw [tTree_eq, hg, Bool.and_false, Bool.or_false]
    congr 1
    funext ts
    unfold tNode
    rw [o]
    show tFun E wi (ndS (nat_ A i)) (ndK (nat_ A i) == 1) ts = _
    rw [hk]
    exact tFun_call hg
  have nr := tr i il
  have pts := nr.2.2.2.2.2.2.2.1 o4
  have len := sh.len
  refine JW.inv fun hI => t_X29_check (w_ca0 (nm := ndS (nat_ A i)) (c := (ndP (nat_ A i)).length) nr.1 ((nr.2.2.2.2.2.2.1 o).2 nk) pts.2.2.1 len (by omega) ?_)
  refine ⟨(ndP (nat_ A i)).length + 1, w_partsC (d := e) (Q := (pR D h 52 (CkOk D A E ρ sc (f + 1) i h (tTree A E (f + 1) wi i)) (CkEr A ρ sc i h (tTree A E (f + 1) wi i)))) (Lp := fun g x y => L_X29_check_147 D e (pR D h 52 (CkOk D A E ρ sc (f + 1) i h (tTree A E (f + 1) wi i)) (CkEr A ρ sc i h (tTree A E (f + 1) wi i))) g (ρ i) sc (if knC (ndS (nat_ A i)) (ndP (nat_ A i)).length = true then 1 else 0) x y) (n := n) hA ri IH hi il hb (by omega) hw len (fun h' t' => (t' i il).2.2.2.2.2.2.2.1 o4) (fun g x h' z => ⟨z.1, z.2.1, z.2.2⟩) ?_ ?_ ((ndP (nat_ A i)).length + 1) 0 [] h (by omega) (by omega) hI rfl (PtK.nil tr sC)⟩
  · rintro h1 ts hI1 em P
    have tl := P.2.2.2.2.1
    have T := P.ptT hA il o4
    have st : StR h1 (jfr h1 116 (ρ i)) (ndS (nat_ A i)) := ((P.2.2.1 i il).2.2.2.2.2.2.1 o).2 nk
    have cf := P.1.mono (M' := NM A ρ (ndL (nat_ A i)) (i + 1)) fun z hz => hz.mono (Nat.le_refl _) (by omega)
    rw [em, ok_bind, tl] at eqT
    have en : ∀ t, tTree A E (f + 1) wi i = .ok t → TyOk t → (pR D h 52 (CkOk D A E ρ sc (f + 1) i h (tTree A E (f + 1) wi i)) (CkEr A ρ sc i h (tTree A E (f + 1) wi i))) (.inl (some (vR 52 (tyc D t)))) (wfr h1 109 (ρ i) (tyc D t)) := fun t t1 t3 =>
      endR fun _ _ _ => ⟨t, t1, rfl, t3, by rw [jfr_wfr, if_pos ⟨rfl, rfl⟩], cf.tr (CkF.ty mi), P.2.1, PlT.ty9 _ _ (P.pl (by omega))⟩
    have er : ∀ c y h3, tTree A E (f + 1) wi i = .error c → Flt h1 h3 y c → (pR D h 52 (CkOk D A E ρ sc (f + 1) i h (tTree A E (f + 1) wi i)) (CkEr A ρ sc i h (tTree A E (f + 1) wi i))) (.inr y) h3 := fun c y h3 eN x3 =>
      endX fun _ _ => ⟨c, h1, eN, cf, x3⟩
    by_cases kn : knC (ndS (nat_ A i)) (ndP (nat_ A i)).length = true
    · rw [if_pos kn] at eqT ⊢
      refine ⟨fun _ => ?_, fun z => absurd z (by decide)⟩
      have s206 : ndS (nat_ A i) = sStr "coalesce" ∨ ndS (nat_ A i) = sStr "nullif" → W_X29_check_206 D e (pR D h 52 (CkOk D A E ρ sc (f + 1) i h (tTree A E (f + 1) wi i)) (CkEr A ρ sc i h (tTree A E (f + 1) wi i))) (ρ i) h1 := fun z => by
        rw [if_pos z] at eqT
        refine ⟨T.2.1, useR (w_one T (by omega)) ?_ ?_⟩
        · rintro v h2 hI2 _ ⟨t, t1, t2, t3, rfl⟩
          rintro h3 rfl
          refine ⟨T.2.1, ?_⟩
          rw [t2, show jfr (wfr h2 109 (ρ i) (tyc D t)) 109 (ρ i) = tyc D t by rw [jfr_wfr, if_pos ⟨rfl, rfl⟩]]
          exact en t (eqT.trans t1) t3
        · rintro y h2 hI2 _ ⟨c, c1, c2⟩
          exact er c y h2 (eqT.trans c1) c2
      refine ⟨st.1, w_eq (w := "coalesce") st ⟨by decide, by decide +kernel⟩ (by omega) (fun z => s206 (Or.inl z)) fun n1 => ⟨st.1, w_eq' (w := "nullif") st ⟨by decide, by decide +kernel⟩ (by omega) (fun z => s206 (Or.inr z)) fun n2 => ?_⟩⟩
      have nb : ¬ (ndS (nat_ A i) = sStr "coalesce" ∨ ndS (nat_ A i) = sStr "nullif") := by
        rintro (z | z)
        · exact n1 z
        · exact n2 z
      rw [if_neg nb] at eqT
      have l1 : 1 ≤ ts.length := by
        unfold knC at kn
        rw [if_neg n1, if_neg n2] at kn
        split at kn
        · simp at kn; omega
        · split at kn
          · simp at kn; omega
          · cases kn
      obtain ⟨p0, e1, e2, e3, e4, e5⟩ := T.at (k := 0) (by omega)
      have hd0 : ts.headD 0 = ts[0] := by
        match ts, l1 with
        | t :: l, _ => rfl
      have i0 : ixn (0 : Int32) = 0 := ixn_nI (n := 0) (by decide)
      have ln := T.1.2.2.2.1
      have ln2 := T.1.2.2.2.2.1
      rw [i0, e2, e4]
      have s247 : ∀ w, TyOk w → w = (if ndS (nat_ A i) = sStr "abs" then 20 else 25) → W_X29_check_247 D e (pR D h 52 (CkOk D A E ρ sc (f + 1) i h (tTree A E (f + 1) wi i)) (CkEr A ρ sc i h (tTree A E (f + 1) wi i))) (ρ i) (tyc D ts[0]) (tyc D w) h1 := fun w tw ew => by
        unfold caS at eqT
        rw [hd0, ← ew] at eqT
        refine useV (w_tneed e5 tw (by omega)) ?_ ?_
        · rintro h2 hI2 _ ⟨f2, rfl⟩
          rw [f2, ok_bind] at eqT
          refine ⟨ts.length + 1, w_ca252 (ty := if ndS (nat_ A i) = sStr "abs" ∨ ndS (nat_ A i) = sStr "length" then 20 else 25) T st hI1 rfl (by omega) ?_ ?_ (ts.length + 1) 1 (by omega) (Or.inr rfl) rfl⟩
          · intro hok
            rw [hok, ok_bind] at eqT
            exact en _ eqT (by split; exact ty20; exact ty25)
          · rintro y h3 c hI3 c1 c2
            rw [c1] at eqT
            exact er c y h3 eqT c2
        · rintro y h2 hI2 _ ⟨f2, x2⟩
          rw [f2] at eqT
          exact er _ y h2 eqT x2
      refine ⟨T.1.1, jin_nI (n := 0) (by omega) (by omega), e3, st.1, w_eq' (w := "abs") st ⟨by decide, by decide +kernel⟩ (by omega) (fun z => s247 20 ty20 (by rw [if_pos z])) fun n3 => s247 25 ty25 (by rw [if_neg n3])⟩
    · rw [if_neg kn] at eqT ⊢
      refine ⟨fun z => absurd rfl z, fun _ => useR0 (w_fault (w := "42883") ⟨by decide, by decide +kernel⟩ (by omega)) ?_⟩
      rintro y h2 _ _ ⟨y1, y2⟩
      exact ⟨y1, er _ y h2 eqT y2⟩
  · rintro y h1 c hm hI1 em c1 c2
    exact endX fun _ _ => ⟨c, hm, by rw [eqT, em]; rfl, c1, c2⟩
end
