/-! the component: an item of SELECT is checked; all items -/
section
variable {D : JD} {h h' h'' h0 h1 h2 : JH} {ρ ρ0 : Nat → Nat} {A A0 : List Nod} {E E' : TEnv} {c r i v k j d e sc n B u x z s nm arr cnt ra rb cn t tt τ itq ik : Nat} {y : Stm} {pt : List Nat} {S : Nat → Prop} {w w1 w2 : Str} {L L0 : List (Nat × List (Str × Tab))} {gs : List Nat} {gr : Bool} {cs : List SCol} {nd : Nod} {q q0 : List Nod × List SCol} {ss : List (Str × Tab)} {tb : Tab} {T : List Tab} {X : List Nat} {it : Itm}
theorem of_any {o : Option Str} (b1 : (o.isSome || !E.1.isEmpty) = true) : (o.isNone || E.1.any fun s => o == some s.1) = E.1.any (ofM o) := by
  cases o with
  | none =>
    show true = _
    symm
    rw [List.any_eq_true]
    cases hl : E.1 with
    | nil => rw [hl] at b1; exact absurd b1 (by decide)
    | cons a l => exact ⟨a, List.mem_cons_self, rfl⟩
  | some w =>
    show (false || E.1.any fun s => some w == some s.1) = _
    rw [Bool.false_or]
    congr 1
theorem w_colC (I : SkI D A0 ρ0 sc E pt L0 v gs gr X q h h1) (hn : (E.1.map (·.1)).Nodup) (ebn : EnB E) (hI : JInv D h) (hI1 : JInv D h1) (kd : SelR h ρ0 v y) (ow : OW h) (eb : EnT D h e T) (sr : SrT D h v e T y E.1) (hT : TbT T) (hK : TbK T) (gl : ∀ g ∈ gs, g < A0.length ∧ (g, E.1) ∈ L0) (hk : (slI (smS y))[ik]? = some it) (l0 : ∀ p ∈ L0, p.1 < A0.length) (hA0 : NOK A0) (hX0 : ∀ z ∈ X, z < A0.length) (xi : it.1 = false → it.2.2 < A0.length ∧ HB A0 n it.2.2 ∧ Apt A0 L0 it.2.2 ∧ ∀ z ∈ X, z < ndL (nat_ A0 it.2.2)) (hd : 4 * n + 40 ≤ d) :
    cX40_column D d v (jar h (jfr h 142 v) ik) sc h1 (pV D h1 (fun h' => ∃ q', cItem gr E gs it q = .ok q' ∧ SkI D A0 ρ0 sc E pt L0 v gs gr (X ++ itX it) q' h h') (fun z h' => ∃ c, cItem gr E gs it q = .error c ∧ SkX D (stX h v) 34 187 h h' z c)) := by
  obtain ⟨d, rfl, he⟩ := dsucc (show 1 ≤ d by omega)
  obtain ⟨v0, vk⟩ := kd.vk
  obtain ⟨kf, sg, f8, z1, z2, sc0, f160⟩ := I.pp
  have kd1 : SelR h1 ρ0 v y := kd.sf sg
  obtain ⟨_, _, c1, c2⟩ := kd1.src
  have le := sr.1
  obtain ⟨_, _, _, ir⟩ := I.itm kd hk
  cases his : it.1 with
  | true =>
    have is1 := ir.2.2.2.1 his
    have eC : cItem gr E gs it q = (xMust (it.2.1.isSome || !E.1.isEmpty) "42601" >>= fun _ => xMust (it.2.1.isNone || E.1.any fun s => it.2.1 == some s.1) "42P01" >>= fun _ => cStars gr E gs it.2.1 E.1 q) := by
      unfold cItem
      rw [if_pos his]
    have eX : X ++ itX it = X := by unfold itX; rw [if_pos his, List.append_nil]
    have go : (it.2.1.isSome || !E.1.isEmpty) = true → W_X40_column_86 D d (pV D h1 (fun h' => ∃ q', cItem gr E gs it q = .ok q' ∧ SkI D A0 ρ0 sc E pt L0 v gs gr (X ++ itX it) q' h h') (fun z h' => ∃ c, cItem gr E gs it q = .error c ∧ SkX D (stX h v) 34 187 h h' z c)) v (jar h (jfr h 142 v) ik) sc h1 := by
      intro b1
      have ea := of_any b1
      rw [show xMust (it.2.1.isSome || !E.1.isEmpty) "42601" = .ok () from by unfold xMust; rw [if_pos b1], ok_bind, ea] at eC
      have := w_colS (q0 := q) (X := X) (A0 := A0) (ρ0 := ρ0) (L0 := L0) (gr := gr) (pt := pt) (Q := pV D h1 (fun h' => ∃ q', cItem gr E gs it q = .ok q' ∧ SkI D A0 ρ0 sc E pt L0 v gs gr (X ++ itX it) q' h h') (fun z h' => ∃ c, cItem gr E gs it q = .error c ∧ SkX D (stX h v) 34 187 h h' z c)) hn ebn hI kd ow eb sr hT hK gl hk his (d := d) (by omega) (fun q' h' hI' f1 f2 I' => ?_) (fun z h' hI' f1 f2 => ?_) (fun z h' c hI' f1 f2 f3 => ?_) E.1.length 0 q h1 (by omega) hI1 I (by rw [List.drop_zero])
      · exact ⟨_, this⟩
      · refine endV fun _ _ => ⟨q', ?_, by rw [eX]; exact I'⟩
        rw [eC, f2]
        exact f1
      · refine fun _ _ => ⟨_, ?_, f2⟩
        rw [eC, f1]
        rfl
      · refine fun _ _ => ⟨c, ?_, f3⟩
        rw [eC, f1]
        exact f2
    refine t_X40_column ⟨ir.1, fun _ => ⟨v0, fun g => go ?_, fun g => ⟨fun g5 => go ?_, fun g5 => ?_⟩⟩, fun z => ?_⟩
    · have : E.1.isEmpty = false := by
        cases hl : E.1 with
        | nil =>
          rw [hl] at le
          rw [c1, ← le] at g
          exact absurd rfl g
        | cons a l => rfl
      rw [this, Bool.not_false, Bool.or_true]
    · have : it.2.1.isSome = true := by
        cases hl : it.2.1 with
        | none => rw [hl] at is1; exact absurd is1 g5
        | some w => rfl
      rw [this, Bool.true_or]
    · have o0 : it.2.1 = none := by
        cases hl : it.2.1 with
        | none => rfl
        | some w => rw [hl] at is1; exact absurd g5 is1.1
      have E0 : E.1.isEmpty = true := by
        rw [c1] at g
        have := (nI_eq (by omega) (by omega)).mp (show nI (slF (smS y)).length = nI 0 from g)
        rw [List.isEmpty_iff]
        exact List.length_eq_zero_iff.mp (by omega)
      refine w_faultP (w := "42601") ⟨by decide, by decide +kernel⟩ hI1 (by omega) fun z h' hI' f1 f2 => ?_
      refine fun _ _ => ⟨sStr "42601", ?_, I.err ⟨by unfold fpl; rw [if_pos rfl]; exact f1, f2⟩⟩
      rw [eC, o0, E0]
      rfl
    · rw [ir.2.2.1, his] at z
      exact absurd z (by decide)
  | false =>
    obtain ⟨xl0, hB0, ap0, apX⟩ := xi his
    obtain ⟨i3, i4⟩ := ir.2.2.2.2 his
    have eX : itX it = [it.2.2] := by unfold itX; rw [if_neg (by rw [his]; decide)]
    obtain ⟨ρ, L, B, eA, lB, hA, ri, hρ, C, LL, LA⟩ := I
    obtain ⟨A, cs⟩ := q
    have eA : A = A0 ++ B := eA
    have lB : B.length ≤ cs.length := lB
    have hA : NOK A := hA
    have ri : RI ρ A.length := ri
    have C : SkC D A ρ sc E pt L (2 * B.length) (11 * B.length) v gs gr cs cs.length h h1 := C
    have LA : ∀ p ∈ L, p ∈ L0 ∨ p.1 ∈ X ∨ (A0.length ≤ p.1 ∧ ndL (nat_ A p.1) = p.1) := LA
    have eC : cItem gr E gs it (A, cs) = (tType A E it.2.2 >>= fun t => cApart gr A E gs it.2.2 >>= fun _ => cAdd cs (it.2.2, it.2.1.getD (cTitle (nat_ A it.2.2)), t) >>= fun cs => .ok (A, cs)) := by
      unfold cItem
      rw [if_neg (by rw [his]; decide)]
      rfl
    have xl : it.2.2 < A.length := by rw [eA, List.length_append]; omega
    have hB : HB A n it.2.2 := by rw [eA]; exact hB0.ext hA0 xl0
    have nx : nat_ A it.2.2 = nat_ A0 it.2.2 := by rw [eA]; exact nat_ext xl0
    have ap : Apt A L it.2.2 := fun p hp => by
      rcases LA p hp with y | y | ⟨y1, y2⟩
      · have pl := l0 p y
        rw [nx, show nat_ A p.1 = nat_ A0 p.1 from by rw [eA]; exact nat_ext pl]
        exact ap0 p y
      · rw [nx]
        exact Or.inl (apX _ y)
      · exact Or.inr (by rw [y2]; omega)
    have ρx : ρ it.2.2 = ρ0 it.2.2 := hρ _ xl0
    refine t_X40_column ⟨ir.1, fun z => ?_, fun _ => ⟨?_, ?_⟩⟩
    · rw [ir.2.2.1, his] at z
      exact absurd rfl z
    · rw [i3, ← ρx]
      exact (C.1.1.2.2.1 _ xl).1
    · rw [i3, ← ρx]
      refine useCk1 (w_chkP C.1 hA ri hn hI1 xl hB ap (by omega)) ?_ ?_
      · rintro v16 h3 hI3 ⟨t, t1, rfl, t3, t4, t5, P3⟩
        have C3 := C.ck hA ri hI1 P3 t5 ap
        have kd3 : SelR h3 ρ0 v y := kd.sf P3.1.2.1
        have fv3 := (P3.1.2.1.at vk (by decide)).2.2.2.2.1
        obtain ⟨aI, xI, _⟩ := kd3.itm
        have ejs : ∀ i, jar h3 (jfr h 142 v) i = jar h (jfr h 142 v) i := (P3.1.2.1.at kd.itm.1.2.1 (by decide)).2.2.2.2.2.2 rfl (by decide)
        have ir3 := xI ik it hk
        rw [fv3 142 rfl, ejs] at ir3
        obtain ⟨i33, i34⟩ := ir3.2.2.2.2 his
        have bb1 := kd3.arr (a := (156, 158, 16)) (by decide)
        have bb2 := kd3.arr (a := (158, 160, 16)) (by decide)
        rw [t1, ok_bind] at eC
        have rm : jsz h3 ≤ jsz h + 34 ∧ jus h3 ≤ jus h + 187 := by
          have q1 := P3.1.2.2.2.2.2.2.1
          have q2 := P3.1.2.2.2.2.2.2.2
          have := C.2.2.2.1.2
          omega
        have ad : cApart gr A E gs it.2.2 = .ok () → ∀ tt, StR h3 tt (it.2.1.getD (cTitle (nat_ A it.2.2))) → W_X40_column_57 D d (pV D h1 (fun h' => ∃ q', cItem gr E gs it (A, cs) = .ok q' ∧ SkI D A0 ρ0 sc E pt L0 v gs gr (X ++ itX it) q' h h') (fun z h' => ∃ c, cItem gr E gs it (A, cs) = .error c ∧ SkX D (stX h v) 34 187 h h' z c)) v (ρ it.2.2) tt h3 := by
          intro ea tt ht
          rw [ea, ok_bind] at eC
          refine ⟨v0, useV (w_add (x := ρ it.2.2) (tt := tt) v0 bb1 bb2 C3.2.2.2.1.1 C3.2.2.2.1.2 (by omega)) ?_ ?_⟩
          · rintro h6 hI6 _ ⟨l, he6⟩
            have he6 := he6.symm
            subst he6
            rw [fv3 156 rfl, fv3 158 rfl] at hI6 ⊢
            have C4 := C3.add (x := it.2.2) (tt := tt) (τ := t) hA hI3 kd l (Nat.le_succ _) (List.mem_append_right _ (List.mem_singleton.mpr rfl)) ht t4 t3
            refine endV fun _ _ => ⟨(A, cs ++ [(it.2.2, it.2.1.getD (cTitle (nat_ A it.2.2)), t)]), ?_, ρ, L ++ [(it.2.2, E.1)], B, eA, ?_, hA, ri, hρ, ?_, fun p hp => List.mem_append_left _ (LL p hp), fun p hp => ?_⟩
            · rw [eC]
              unfold cAdd
              rw [if_neg (by simp only [beq_iff_eq]; omega)]
              rfl
            · show B.length ≤ (cs ++ _).length
              rw [List.length_append]
              show B.length ≤ cs.length + 1
              omega
            · have e3 : (cs ++ [(it.2.2, it.2.1.getD (cTitle (nat_ A it.2.2)), t)]).length = cs.length + 1 := by rw [List.length_append]; rfl
              show SkC D A ρ sc E pt _ _ _ v gs gr (cs ++ [(it.2.2, it.2.1.getD (cTitle (nat_ A it.2.2)), t)]) (cs ++ [(it.2.2, it.2.1.getD (cTitle (nat_ A it.2.2)), t)]).length h _
              rw [e3]
              exact C4
            · rcases List.mem_append.mp hp with z | z
              · rcases LA p z with y | y | y
                · exact Or.inl y
                · exact Or.inr (Or.inl (List.mem_append_left _ y))
                · exact Or.inr (Or.inr y)
              · rw [List.mem_singleton.mp z, eX]
                exact Or.inr (Or.inl (List.mem_append_right _ (List.mem_singleton.mpr rfl)))
          · rintro z h6 hI6 _ ⟨l, f⟩
            refine fun _ _ => ⟨_, ?_, h3, P3.1.1, P3.1.2.1, rm.1, rm.2, f.fx (by decide +kernel)⟩
            rw [eC]
            unfold cAdd
            rw [if_pos (by simp only [beq_iff_eq]; exact l)]
            rfl
        have fin : cApart gr A E gs it.2.2 = .ok () → W_X40_column_31 D d (pV D h1 (fun h' => ∃ q', cItem gr E gs it (A, cs) = .ok q' ∧ SkI D A0 ρ0 sc E pt L0 v gs gr (X ++ itX it) q' h h') (fun z h' => ∃ c, cItem gr E gs it (A, cs) = .error c ∧ SkX D (stX h v) 34 187 h h' z c)) v (jar h (jfr h 142 v) ik) h3 := by
          intro ea
          refine ⟨ir3.1, ?_⟩
          rw [i33, ← ρx]
          refine ⟨fun g5 => ?_, fun g5 => ⟨(P3.1.2.2.1 _ xl).1, ?_⟩⟩
          · refine ad ea _ ?_
            cases hl : it.2.1 with
            | none => rw [hl] at i34; exact absurd i34 g5
            | some w => rw [hl] at i34; exact i34
          · have o0 : it.2.1 = none := by
              cases hl : it.2.1 with
              | none => rfl
              | some w => rw [hl] at i34; exact absurd g5 i34.1
            refine useTitle (w_title hA xl P3.1.2.2.1 (by omega)) ?_
            rintro tt h5 hI5 _ ⟨u1, he5⟩
            have he5 := he5.symm
            subst he5
            exact ad ea tt (by rw [o0]; exact u1)
        refine ⟨v0, ?_⟩
        rw [C3.2.2.1]
        refine ⟨fun g => fin ?_, fun g => ?_⟩
        · unfold cApart
          rw [if_neg]
          intro z
          rw [z] at g
          exact absurd g (by decide)
        · have hg : gr = true := by
            cases z : gr with
            | true => rfl
            | false => rw [z] at g; exact absurd rfl g
          have px : PlA A E h3 ρ it.2.2 := (P3.2 (it.2.2, E.1) (List.mem_append_right _ (List.mem_singleton.mpr rfl))).2.env rfl
          have gg : ∀ g ∈ gs, g < A.length ∧ PlA A E h3 ρ g := fun g hg => by
            obtain ⟨b1, b2⟩ := P3.2 (g, E.1) (List.mem_append_left _ (LL _ (gl g hg).2))
            exact ⟨b1, b2.env rfl⟩
          rw [i33, ← ρx]
          refine ⟨ir3.1, (P3.1.2.2.1 _ xl).1, useV (w_grp hA P3.1.2.2.1 hI3 ebn C3.2.1.1 gg (it.2.2 + 1) it.2.2 d n (by omega) xl hB (by omega) px) ?_ ?_⟩
          · rintro h5 hI5 _ ⟨a1, he5⟩
            have he5 := he5.symm
            subst he5
            exact fin (by unfold cApart; rw [if_pos hg]; exact a1)
          · rintro z h5 hI5 _ ⟨a1, a2⟩
            refine fun _ _ => ⟨_, ?_, h3, P3.1.1, P3.1.2.1, rm.1, rm.2, a2.fx (by decide +kernel)⟩
            rw [eC]
            unfold cApart
            rw [if_pos hg, a1]
            rfl
      · rintro z h3 hI3 ⟨c, t1, t2⟩
        refine fun _ _ => ⟨c, by rw [eC, t1]; rfl, t2.mono ?_ ?_⟩
        · have := C.2.2.2.1.2
          omega
        · have := C.2.2.2.1.2
          omega
theorem cItems_eq {l : List Itm} {st : List Nat} : cItems gr E gs (it :: l) q st = (cItem gr E gs it q >>= fun q' => cItems gr E gs l q' (st ++ [q.2.length])) := by
  rw [cItems]
theorem w_selI {Q : JO → JH → Prop} (hn : (E.1.map (·.1)).Nodup) (ebn : EnB E) (hI : JInv D h) (kd : SelR h ρ0 v y) (ow : OW h) (eb : EnT D h e T) (sr : SrT D h v e T y E.1) (hT : TbT T) (hK : TbK T) (gl : ∀ g ∈ gs, g < A0.length ∧ (g, E.1) ∈ L0) (l12 : (slI (smS y)).length ≤ 12) (l0 : ∀ p ∈ L0, p.1 < A0.length) (hA0 : NOK A0) (xl : ∀ x ∈ (slI (smS y)).flatMap itX, x < A0.length ∧ HB A0 n x ∧ Apt A0 L0 x) (pw : ((slI (smS y)).flatMap itX).Pairwise fun x z => x < ndL (nat_ A0 z)) (hd : 4 * n + 40 ≤ d)
    (hQ : ∀ q' st h', JInv D h' → cItems gr E gs (slI (smS y)) (A0, []) [] = .ok (q', st) → SkI D A0 ρ0 sc E pt L0 v gs gr ((slI (smS y)).flatMap itX) q' h h' → ∃ n, L_X40_check_363 D d Q n v sc 0 h')
    (hX : ∀ z h' c, JInv D h' → cItems gr E gs (slI (smS y)) (A0, []) [] = .error c → SkX D (stX h v) 34 187 h h' z c → Q (.inr z) h') :
    ∀ (m k : Nat) (q : List Nod × List SCol) (st : List Nat) (h1 : JH), k + m = (slI (smS y)).length → JInv D h1 → SkI D A0 ρ0 sc E pt L0 v gs gr (((slI (smS y)).take k).flatMap itX) q h h1 → cItems gr E gs (slI (smS y)) (A0, []) [] = cItems gr E gs ((slI (smS y)).drop k) q st → L_X40_check_336 D d Q (m + 1) v sc (nI k) h1
  | m, k, q, st, h1, hm, hI1, I, eq => by
    obtain ⟨v0, vk⟩ := kd.vk
    obtain ⟨kf, sg, f8, z1, z2, sc0, f160⟩ := I.pp
    have kd1 : SelR h1 ρ0 v y := kd.sf sg
    obtain ⟨_, _, c1⟩ := kd1.itm
    refine ⟨v0, fun g => ?_, fun g => ?_⟩
    · rw [c1] at g
      have := (nI_leI (by omega) (by omega)).mp g
      rw [List.drop_eq_nil_of_le (by omega)] at eq
      rw [List.take_of_length_le (by omega)] at I
      exact hQ q st h1 hI1 eq I
    · rw [c1] at g
      have kl : k < (slI (smS y)).length := Nat.lt_of_not_le fun z => g ((nI_leI (by omega) (by omega)).mpr z)
      obtain ⟨m', rfl⟩ : ∃ m', m = m' + 1 := ⟨m - 1, by omega⟩
      have hk : (slI (smS y))[k]? = some (slI (smS y))[k] := List.getElem?_eq_getElem kl
      have tk : ((slI (smS y)).take (k + 1)).flatMap itX = ((slI (smS y)).take k).flatMap itX ++ itX (slI (smS y))[k] := by
        rw [List.take_succ_eq_append_getElem kl, List.flatMap_append]
        congr 1
        rw [List.flatMap_cons, List.flatMap_nil, List.append_nil]
      have sp : (slI (smS y)).flatMap itX = ((slI (smS y)).take k).flatMap itX ++ (itX (slI (smS y))[k] ++ ((slI (smS y)).drop (k + 1)).flatMap itX) := by
        conv => lhs; rw [← List.take_append_drop k (slI (smS y)), List.flatMap_append, List.drop_eq_getElem_cons kl, List.flatMap_cons]
      rw [List.drop_eq_getElem_cons kl, cItems_eq] at eq
      generalize (slI (smS y))[k] = it at hk tk sp eq
      obtain ⟨i1, i2, i3, i4⟩ := I.itm kd hk
      have ix : ixn (nI k) = k := ixn_nI (by omega)
      rw [i1, ix, i3]
      refine ⟨i2.1, by rw [i2.2.2]; exact jin_nI (by omega) (by decide), useV (w_colC (n := n) I hn ebn hI hI1 kd ow eb sr hT hK gl hk l0 hA0 (fun z hz => (xl z ?_).1) (fun hs => ?_) hd) ?_ ?_⟩
      · rw [sp]; exact List.mem_append_left _ hz
      · have hx : it.2.2 ∈ itX it := by unfold itX; rw [if_neg (by rw [hs]; decide)]; exact List.mem_singleton.mpr rfl
        obtain ⟨x1, x2, x3⟩ := xl it.2.2 (by rw [sp]; exact List.mem_append_right _ (List.mem_append_left _ hx))
        refine ⟨x1, x2, x3, fun z hz => ?_⟩
        rw [sp] at pw
        exact (List.pairwise_append.mp pw).2.2 z hz _ (List.mem_append_left _ hx)
      · rintro h3 hI3 _ ⟨q', e1, I'⟩
        rw [e1, ok_bind] at eq
        rw [← tk] at I'
        rw [nI_1]
        exact w_selI hn ebn hI kd ow eb sr hT hK gl l12 l0 hA0 xl pw hd hQ hX m' (k + 1) q' _ h3 (by omega) hI3 I' eq
      · rintro z h3 hI3 _ ⟨c, e1, e2⟩
        rw [e1] at eq
        exact hX z h3 c hI3 eq e2
end
