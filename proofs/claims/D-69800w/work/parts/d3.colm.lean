/-! the component: a column that a star stands for is checked -/
section
variable {D : JD} {h h' h'' h0 h1 h2 : JH} {ρ ρ0 : Nat → Nat} {A A0 : List Nod} {E E' : TEnv} {c r i v k j d e sc n B u x z s nm arr cnt ra rb cn t tt τ it : Nat} {y : Stm} {pt : List Nat} {S : Nat → Prop} {w w1 w2 : Str} {L L0 : List (Nat × List (Str × Tab))} {gs : List Nat} {gr : Bool} {cs : List SCol} {nd : Nod} {q : List Nod × List SCol} {ss : List (Str × Tab)} {tb : Tab} {T : List Tab}
/-- names of columns differ and are short -/
def TbK (T : List Tab) : Prop := ∀ tb ∈ T, (tb.2.1.map (·.1)).Nodup ∧ ∀ c ∈ tb.2.1, c.1.length ≤ 20
theorem tColOf_nd {cs : List Col} {c : Col} (nd : (cs.map (·.1)).Nodup) (hc : cs[i]? = some c) : tColOf cs c.1 = some i := by
  obtain ⟨il, ie⟩ := List.getElem?_eq_some_iff.mp hc
  unfold tColOf
  rw [List.findIdx?_eq_some_iff_getElem]
  refine ⟨il, by rw [ie]; exact beq_self_eq_true _, fun j hj => ?_⟩
  intro z
  have z : cs[j].1 = c.1 := by simpa using z
  have pw := List.pairwise_iff_getElem.mp nd j i (by rw [List.length_map]; omega) (by rw [List.length_map]; omega) hj
  rw [List.getElem_map, List.getElem_map, ie] at pw
  exact pw z
theorem tFound_no (hn : ∀ q ∈ ss, q.1 ≠ w) : ∀ k, ((ss.zipIdx k).filterMap fun q => if (some w).all (· == q.1.1) = true then (tColOf q.1.2.2.1 w2).map fun c => (q.2, c) else none) = [] := by
  induction ss with
  | nil => intro k; rfl
  | cons a l ih =>
    intro k
    have hne : ((some w).all (· == a.1)) = false := by
      show (w == a.1) = false
      simpa using fun z => hn a (List.mem_cons_self) z.symm
    rw [List.zipIdx_cons, List.filterMap_cons]
    dsimp only
    rw [hne, if_neg (by decide)]
    exact ih (fun q hq => hn q (List.mem_cons_of_mem _ hq)) (k + 1)
theorem tFound_one : ∀ (ss : List (Str × Tab)) (k j : Nat), (ss.map (·.1)).Nodup → ss[j]? = some (w, tb) → tColOf tb.2.1 w2 = some i → ((ss.zipIdx k).filterMap fun q => if (some w).all (· == q.1.1) = true then (tColOf q.1.2.2.1 w2).map fun c => (q.2, c) else none) = [(k + j, i)]
  | [], _, _, _, hj, _ => by simp at hj
  | a :: l, k, 0, nd, hj, hc => by
    have hj : a = (w, tb) := by simpa using hj
    subst hj
    rw [List.map_cons, List.nodup_cons] at nd
    rw [List.zipIdx_cons, List.filterMap_cons]
    dsimp only
    rw [if_pos (show ((some w).all (· == w)) = true from beq_self_eq_true _), hc]
    show (k, i) :: _ = _
    rw [tFound_no (fun q hq z => nd.1 (by rw [← z]; exact List.mem_map.mpr ⟨q, hq, rfl⟩)) (k + 1)]
    rfl
  | a :: l, k, j + 1, nd, hj, hc => by
    rw [List.getElem?_cons_succ] at hj
    rw [List.map_cons, List.nodup_cons] at nd
    have hne : ((some w).all (· == a.1)) = false := by
      show (w == a.1) = false
      have : w ≠ a.1 := fun z => nd.1 (by rw [← z]; exact List.mem_map.mpr ⟨_, List.mem_of_getElem? hj, rfl⟩)
      simpa using this
    rw [List.zipIdx_cons, List.filterMap_cons]
    dsimp only
    rw [hne, if_neg (by decide)]
    dsimp only
    rw [tFound_one l (k + 1) j nd.2 hj hc, show k + 1 + j = k + (j + 1) by omega]
theorem star_ty {cc : Col} (nd : (E.1.map (·.1)).Nodup) (hj : E.1[j]? = some (w, tb)) (nc : (tb.2.1.map (·.1)).Nodup) (hc : tb.2.1[i]? = some cc) : tType (A ++ [(2, 0, cc.1, some w, vNull, [], A.length)]) E A.length = .ok cc.2.1 := by
  unfold tType
  rw [tTree_eq, nat_last]
  show (List.mapM _ [] >>= _) = _
  rw [List.mapM_nil]
  show tNode E false (2, 0, cc.1, some w, vNull, [], A.length) [] = _
  unfold tNode
  show (tColumn E (some w) cc.1 >>= fun x => .ok (((E.1[x.1]?.map fun q => q.2.2.1[x.2]?.map fun (x : Col) => x.2.1).join).getD 0)) = _
  have hf : tFound E.1 (some w) cc.1 = [(j, i)] := by
    unfold tFound
    have := tFound_one (w := w) (tb := tb) (w2 := cc.1) (i := i) E.1 0 j nd hj (tColOf_nd nc hc)
    rw [Nat.zero_add] at this
    exact this
  have hcol : tColumn E (some w) cc.1 = .ok (j, i) := by
    unfold tColumn
    have ha : ((some w).isNone || E.1.any fun q => some w == some q.1) = true := by
      show (false || _) = true
      rw [Bool.false_or, List.any_eq_true]
      exact ⟨_, List.mem_of_getElem? hj, by simp⟩
    rw [hf]
    unfold xMust
    rw [if_pos ha]
    rfl
  rw [hcol, ok_bind]
  dsimp only
  rw [hj]
  show Except.ok (((some (tb.2.1[i]?.map fun (x : Col) => x.2.1)).join).getD 0) = _
  rw [hc]
  rfl
/-- while the columns of SELECT are checked, with the nodes of stars -/
def SkI (D : JD) (A0 : List Nod) (ρ0 : Nat → Nat) (sc : Nat) (E : TEnv) (pt : List Nat) (L0 : List (Nat × List (Str × Tab))) (v : Nat) (gs : List Nat) (gr : Bool) (X : List Nat) (q : List Nod × List SCol) (h h1 : JH) : Prop :=
  ∃ ρ L B, q.1 = A0 ++ B ∧ B.length ≤ q.2.length ∧ NOK q.1 ∧ RI ρ q.1.length ∧ (∀ i, i < A0.length → ρ i = ρ0 i) ∧ SkC D q.1 ρ sc E pt L (2 * B.length) (11 * B.length) v gs gr q.2 q.2.length h h1 ∧ (∀ p ∈ L0, p ∈ L) ∧ ∀ p ∈ L, p ∈ L0 ∨ p.1 ∈ X ∨ (A0.length ≤ p.1 ∧ ndL (nat_ q.1 p.1) = p.1)
theorem SkX.mono {ra' rb' : Nat} {c : Str} (k : SkX D S ra rb h h' z c) (h1 : ra ≤ ra') (h2 : rb ≤ rb') : SkX D S ra' rb' h h' z c := by
  obtain ⟨hm, a, b, c, d, e⟩ := k
  exact ⟨hm, a, b, by omega, by omega, e⟩
/-- one column of a star -/
theorem w_star1 {Q : JO → JH → Prop} {K91 : Nat → Nat → Nat → Int32 → Int32 → JH → Prop} {K135 : Nat → Nat → Nat → Int32 → Int32 → Int32 → JH → Prop} {x3 x4 x5 : Int32} {X : List Nat} {cc : Col} (I : SkI D A0 ρ0 sc E pt L0 v gs gr X q h h1) (hn : (E.1.map (·.1)).Nodup) (eb : EnB E) (hI : JInv D h) (hI1 : JInv D h1) (kd : SelR h ρ0 v y) (ow : OW h) (gl : ∀ g ∈ gs, g < A0.length ∧ (g, E.1) ∈ L0) (hs : StR h1 s w) (hm : StR h1 nm cc.1) (l20 : cc.1.length ≤ 20) (hj : E.1[j]? = some (w, tb)) (nc : (tb.2.1.map (·.1)).Nodup) (hc : tb.2.1[i]? = some cc) (hd : 30 ≤ d)
    (hQ : ∀ q' h', JInv D h' → cStar1 gr E gs w cc q = .ok q' → SkI D A0 ρ0 sc E pt L0 v gs gr X q' h h' → K135 v it sc x3 x4 (x5 + (1 : Int32)) h')
    (hX : ∀ z h' c, JInv D h' → cStar1 gr E gs w cc q = .error c → SkX D (stX h v) 34 187 h h' z c → Q (.inr z) h') :
    cX40_star D d v s nm h1 (pR D h1 24 (fun v_14 h_12 => v_14 ≠ 0 ∧ (cX30_check D d v_14 sc h_12 (pR D h_12 52 (fun v_18 h_16 => ((jfi h_16 160 v) = 0 → W_X40_column_208 D d Q K91 K135 v it sc x3 x4 x5 v_14 h_16) ∧ (¬ (jfi h_16 160 v) = 0 → cX24_grouped D d v_14 sc h_16 (pV D h_16 (fun h_20 => W_X40_column_208 D d Q K91 K135 v it sc x3 x4 x5 v_14 h_20) (jth Q)))) (jth Q)))) (jth Q)) := by
  obtain ⟨ρ, L, B, eA, lB, hA, ri, hρ, C, LL, LA⟩ := I
  obtain ⟨A, cs⟩ := q
  have eA : A = A0 ++ B := eA
  have lB : B.length ≤ cs.length := lB
  have hA : NOK A := hA
  have ri : RI ρ A.length := ri
  have C : SkC D A ρ sc E pt L (2 * B.length) (11 * B.length) v gs gr cs cs.length h h1 := C
  have P1 := C.1
  have sg1 := P1.1.2.1
  have kd1 : SelR h1 ρ0 v y := kd.sf sg1
  obtain ⟨v0, vk⟩ := kd.vk
  have fv := (sg1.at vk (by decide)).2.2.2.2.1
  have aa := kd1.arr (a := (157, 159, 16)) (by decide)
  have e157 : jfr h1 157 v = jfr h 157 v := fv 157 rfl
  have ow1 : OW h1 := sg1.2.2.2.2.2.2.2.1 ow
  have l16 := C.2.2.2.1.2
  have gl' : ∀ g ∈ gs, g < A.length := fun g hg => by rw [eA, List.length_append]; have := (gl g hg).1; omega
  refine useR0 (w_star kd1.vk aa C.2.2.2.1.1 l16 (fun i hi => by rw [e157]; exact C.2.2.2.2.2.1 i hi) ow1 hs hm (by omega)) ?_
  rintro x h2 hI2 _ ⟨a, so, t1, t2, hcx, hox⟩
  rw [e157] at a hcx hox
  obtain ⟨C2, hA2, ri2⟩ := C.star hA ri hI hI1 kd a so t1 t2 l20 hcx hox gl'
  refine ⟨so.1, ?_⟩
  have len : (A ++ [((2, 0, cc.1, some w, vNull, [], A.length) : Nod)]).length = A.length + 1 := by rw [List.length_append]; rfl
  have ex : rup ρ A.length x A.length = x := rup_eq ρ A.length x
  have lo : ndL (nat_ (A ++ [((2, 0, cc.1, some w, vNull, [], A.length) : Nod)]) A.length) = A.length := by rw [nat_last]; rfl
  have ap : Apt (A ++ [((2, 0, cc.1, some w, vNull, [], A.length) : Nod)]) L A.length := fun p hp => Or.inl (by rw [lo]; exact (P1.2 p hp).1)
  have hB : HB (A ++ [((2, 0, cc.1, some w, vNull, [], A.length) : Nod)]) 1 A.length := fun p hp => by
    rw [nat_last] at hp
    exact absurd hp List.not_mem_nil
  have ety := star_ty (A := A) hn hj nc hc
  have ck := w_chkP C2.1 hA2 ri2 hn hI2 (x := A.length) (n := 1) (by rw [len]; omega) hB ap (d := d) (by omega)
  rw [ex] at ck
  have ck := ck.2.2.2.2.1 so.2.1
  refine useR ck ?_ ?_
  · rintro v18 h3 hI3 _ ⟨t, g1, rfl, g3, g4, g5, P3⟩
    rw [ety] at g1
    cases g1
    have C3 := C2.ck hA2 ri2 hI2 P3 g5 ap
    have eC : cStar1 gr E gs w cc (A, cs) = (cApart gr (A ++ [(2, 0, cc.1, some w, vNull, [], A.length)]) E gs A.length >>= fun _ => cAdd cs (A.length, cc.1, cc.2.1) >>= fun cs => .ok (A ++ [(2, 0, cc.1, some w, vNull, [], A.length)], cs)) := rfl
    have nr := P3.1.2.2.1 A.length (by rw [len]; omega)
    rw [ex, nat_last] at nr
    have f1 : StR h3 (jfr h3 118 x) cc.1 := (nr.2.2.2.2.2.1 rfl).1
    have kd3 : SelR h3 ρ0 v y := kd.sf P3.1.2.1
    have fv3 := (P3.1.2.1.at vk (by decide)).2.2.2.2.1
    have bb1 := kd3.arr (a := (156, 158, 16)) (by decide)
    have bb2 := kd3.arr (a := (158, 160, 16)) (by decide)
    have fin : cApart gr (A ++ [(2, 0, cc.1, some w, vNull, [], A.length)]) E gs A.length = .ok () → W_X40_column_208 D d Q K91 K135 v it sc x3 x4 x5 x h3 := by
      intro ea
      refine ⟨so.1, JW.up (n := 1) (fun dd => ?_) (show 1 ≤ d by omega)⟩
      refine t_X30_title ⟨so.1, fun _ _ _ => ⟨rfl, v0, ?_⟩⟩
      refine useV (w_add (x := x) (tt := jfr h3 118 x) v0 bb1 bb2 C3.2.2.2.1.1 C3.2.2.2.1.2 (by omega)) ?_ ?_
      · rintro h6 hI6 _ ⟨l, he6⟩
        have he6 := he6.symm
        subst he6
        rw [fv3 156 rfl, fv3 158 rfl] at hI6 ⊢
        refine hQ _ hI6 (q' := (A ++ [(2, 0, cc.1, some w, vNull, [], A.length)], cs ++ [(A.length, cc.1, cc.2.1)])) ?_ ⟨rup ρ A.length x, L ++ [(A.length, E.1)], B ++ [(2, 0, cc.1, some w, vNull, [], A.length)], ?_, ?_, hA2, ri2, fun i il => ?_, ?_, fun p hp => List.mem_append_left _ (LL p hp), fun p hp => ?_⟩
        · rw [eC, ea, ok_bind]
          unfold cAdd
          rw [if_neg (by simp only [beq_iff_eq]; omega)]
          rfl
        · show A ++ _ = A0 ++ (B ++ _)
          rw [eA, List.append_assoc]
        · show (B ++ _).length ≤ (cs ++ _).length
          rw [List.length_append, List.length_append]
          show B.length + 1 ≤ cs.length + 1
          omega
        · rw [rup_lt (by rw [eA, List.length_append]; omega)]
          exact hρ i il
        · have C4 := C3.add (x := A.length) (tt := jfr h3 118 x) (w := cc.1) (τ := cc.2.1) hA2 hI3 kd l (Nat.le_refl _) (List.mem_append_right _ (List.mem_singleton.mpr rfl)) f1 (by rw [ex]; exact g4) g3
          rw [ex] at C4
          have e1 : 2 * B.length + 2 = 2 * (B ++ [((2, 0, cc.1, some w, vNull, [], A.length) : Nod)]).length := by rw [List.length_append]; rfl
          have e2 : 11 * B.length + 11 = 11 * (B ++ [((2, 0, cc.1, some w, vNull, [], A.length) : Nod)]).length := by rw [List.length_append]; rfl
          have e3 : (cs ++ [(A.length, cc.1, cc.2.1)]).length = cs.length + 1 := by rw [List.length_append]; rfl
          rw [e1, e2] at C4
          show SkC D _ _ sc E pt _ _ _ v gs gr (cs ++ [(A.length, cc.1, cc.2.1)]) (cs ++ [(A.length, cc.1, cc.2.1)]).length h _
          rw [e3]
          exact C4
        · rcases List.mem_append.mp hp with z | z
          · rcases LA p z with y | y | ⟨y1, y2⟩
            · exact Or.inl y
            · exact Or.inr (Or.inl y)
            · have pl := (P1.2 p z).1
              refine Or.inr (Or.inr ⟨y1, ?_⟩)
              show ndL (nat_ (A ++ _) p.1) = p.1
              rw [nat_ext pl]
              exact y2
          · rw [List.mem_singleton.mp z]
            refine Or.inr (Or.inr ⟨?_, lo⟩)
            show A0.length ≤ A.length
            rw [eA, List.length_append]
            omega
      · rintro z h6 hI6 _ ⟨l, f⟩
        refine hX z h6 _ hI6 ?_ ⟨h3, P3.1.1, P3.1.2.1, ?_, ?_, f.fx (by decide +kernel)⟩
        · rw [eC, ea, ok_bind]
          unfold cAdd
          rw [if_pos (by simp only [beq_iff_eq]; exact l)]
          rfl
        · have := P3.1.2.2.2.2.2.2.1
          omega
        · have := P3.1.2.2.2.2.2.2.2
          omega
    rw [C3.2.2.1]
    refine ⟨fun g => fin ?_, fun g => ?_⟩
    · unfold cApart
      rw [if_neg]
      intro z
      rw [z] at g
      exact absurd g (by decide)
    · have hg : gr = true := by
        cases z : gr with
        | true => rfl
        | false => rw [z] at g; exact absurd rfl g
      have px : PlA (A ++ [((2, 0, cc.1, some w, vNull, [], A.length) : Nod)]) E h3 (rup ρ A.length x) A.length := (P3.2 (A.length, E.1) (List.mem_append_right _ (List.mem_singleton.mpr rfl))).2.env rfl
      have gg : ∀ g ∈ gs, g < (A ++ [((2, 0, cc.1, some w, vNull, [], A.length) : Nod)]).length ∧ PlA (A ++ [((2, 0, cc.1, some w, vNull, [], A.length) : Nod)]) E h3 (rup ρ A.length x) g := fun g hg => by
        obtain ⟨b1, b2⟩ := P3.2 (g, E.1) (List.mem_append_left _ (LL _ (gl g hg).2))
        exact ⟨b1, b2.env rfl⟩
      have cg := w_grp hA2 P3.1.2.2.1 hI3 eb C3.2.1.1 gg (A.length + 1) A.length d 1 (by omega) (by rw [len]; omega) hB (by omega) px
      rw [ex] at cg
      refine useV cg ?_ ?_
      · rintro h5 hI5 _ ⟨a1, he5⟩
        have he5 := he5.symm
        subst he5
        exact fin (by unfold cApart; rw [if_pos hg]; exact a1)
      · rintro z h5 hI5 _ ⟨a1, a2⟩
        refine hX z h5 _ hI5 ?_ ⟨h3, P3.1.1, P3.1.2.1, ?_, ?_, a2.fx (by decide +kernel)⟩
        · rw [eC]
          unfold cApart
          rw [if_pos hg, a1]
          rfl
        · have := P3.1.2.2.2.2.2.2.1
          omega
        · have := P3.1.2.2.2.2.2.2.2
          omega
  · rintro z h3 hI3 _ ⟨c, g1, _⟩
    rw [ety] at g1
    cases g1
end
