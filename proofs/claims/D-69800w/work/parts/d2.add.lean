/-! the component: a column of SELECT is kept; titles -/
section
variable {D : JD} {h h' h'' h0 h1 h2 : JH} {ρ ρ0 : Nat → Nat} {A : List Nod} {E E' : TEnv} {q c r i v k j d e sc n B u x z s nm arr cnt ra rb cn t tt τ : Nat} {y : Stm} {pt : List Nat} {S : Nat → Prop} {w w1 w2 : Str} {L : List (Nat × List (Str × Tab))} {gs : List Nat} {gr : Bool} {cs : List SCol} {nd : Nod}
theorem useTitle {K K' : Nat → JH → Prop} {X : Nat → JH → Prop} (k : v55_title D d q h (pR D h 64 K no)) (g : ∀ v h', JInv D h' → jle h h' → K v h' → K' v h') : v55_title D d q h (pR D h 64 K' X) := by
  obtain ⟨a1, a2, a3, a4, a5, a6, a7, a8, a9, a10⟩ := k
  exact ⟨fun z => useR0 (a1 z) g, fun z => useR0 (a2 z) g, fun z => useR0 (a3 z) g, fun z => useR0 (a4 z) g, fun z => useR0 (a5 z) g, fun z => useR0 (a6 z) g, fun z => useR0 (a7 z) g, fun z => useR0 (a8 z) g, fun z => useR0 (a9 z) g, fun z => useR0 (a10 z) g⟩
theorem w_title (hA : NOK A) (il : i < A.length) (tr : TreeR D h A ρ) (hd : 1 ≤ d) : v55_title D d (ρ i) h (pR D h 64 (fun v h' => StR h v (cTitle (nat_ A i)) ∧ h' = h) no) := by
  obtain ⟨e, rfl, he⟩ := dsucc hd
  have nr := tr i il
  have sh := (hA i il).2.2.1
  have op := fun {k : Nat} (z : jkd h (ρ i) = k) => nkd_op sh.op (nr.2.1.symm.trans z)
  obtain ⟨k1, k2, k3, f0, f1, f2, f3, f4, f5⟩ := nr
  have plain : ∀ {k : Nat}, jkd h (ρ i) = k → (k = 20 ∨ k = 25 ∨ k = 26 ∨ k = 27 ∨ k = 28 ∨ k = 29) → cX24_title D (e + 1) (ρ i) h (pR D h 64 (fun v h' => StR h v (cTitle (nat_ A i)) ∧ h' = h) no) := fun z k => by
    refine JW.inv fun hI => t_X24_title (show pR D h 64 (fun v h' => StR h v (cTitle (nat_ A i)) ∧ h' = h) no (.inl (some (vR 64 (jcs D 178)))) h from endR fun _ _ _ => ⟨?_, rfl⟩)
    have o := op z
    have ec : cTitle (nat_ A i) = sStr "?column?" := by
      unfold cTitle
      rw [if_neg (by simp only [Bool.or_eq_true, beq_iff_eq]; omega), if_neg (by simp only [beq_iff_eq]; omega)]
    rw [ec]
    have := k_const hI (j := 178) (by decide)
    rw [show jcon 178 = sStr "?column?" from by decide +kernel] at this
    exact this
  have named : (ndO (nat_ A i) = 2 ∨ ndO (nat_ A i) = 3) → cTitle (nat_ A i) = ndS (nat_ A i) := fun o => by
    unfold cTitle
    rw [if_pos (by simp only [Bool.or_eq_true, beq_iff_eq]; exact o)]
  refine ⟨fun z => plain z (by omega), fun z => ?_, fun z => ?_, fun z => ?_, fun z => ?_, fun z => plain z (by omega), fun z => plain z (by omega), fun z => plain z (by omega), fun z => plain z (by omega), fun z => plain z (by omega)⟩
  · refine JW.inv fun hI => t_X27_title (show pR D h 64 (fun v h' => StR h v (cTitle (nat_ A i)) ∧ h' = h) no (.inl (some (vR 64 (jcs D 177)))) h from endR fun _ _ _ => ⟨?_, rfl⟩)
    have o := op z
    have ec : cTitle (nat_ A i) = sStr "case" := by
      unfold cTitle
      rw [if_neg (by simp only [Bool.or_eq_true, beq_iff_eq]; omega), if_pos (by simp only [beq_iff_eq]; omega)]
    rw [ec]
    have := k_const hI (j := 177) (by decide)
    rw [show jcon 177 = sStr "case" from by decide +kernel] at this
    exact this
  · have o := op z
    refine t_X28_title ⟨k1, endR fun _ _ _ => ⟨?_, rfl⟩⟩
    rw [named (by omega)]
    exact ((f3 (by omega)).1 (by rw [← k2]; exact z)).1
  · have o := op z
    refine t_X29_title ⟨k1, endR fun _ _ _ => ⟨?_, rfl⟩⟩
    rw [named (by omega)]
    exact (f3 (by omega)).2 (by rw [← k2]; exact z)
  · have o := op z
    refine t_X30_title ⟨k1, endR fun _ _ _ => ⟨?_, rfl⟩⟩
    rw [named (by omega)]
    exact (f2 (by omega)).1
/-- Select.add -/
theorem w_add (vk : v ≠ 0) (a1 : AR h (jfr h 156 v) 158 16) (a2 : AR h (jfr h 158 v) 160 16) (ec : jfi h 159 v = nI cnt) (hc : cnt ≤ 16) (hd : 8 ≤ d) :
    cX40_add D d v x tt h (pV D h (fun h' => cnt < 16 ∧ h' = wfi (war (war h (jfr h 156 v) cnt x) (jfr h 158 v) cnt tt) 159 v (nI (cnt + 1))) (fun z h' => cnt = 16 ∧ Flt h h' z (sStr "54000"))) := by
  obtain ⟨d, rfl, he⟩ := dsucc (show 1 ≤ d by omega)
  refine t_X40_add ⟨vk, fun g => ?_, fun g => ?_⟩
  · have c16 : cnt < 16 := by
      rcases Nat.lt_or_ge cnt 16 with z | z
      · exact z
      · have : cnt = 16 := by omega
        rw [ec, this] at g
        exact absurd rfl g
    have ix : ixn (nI cnt) = cnt := ixn_nI (by omega)
    rw [ec, ix]
    refine ⟨a1.1, by rw [a1.2.2]; exact jin_nI c16 (by decide), ?_⟩
    rintro h5 rfl
    have e1 : jfr (war h (jfr h 156 v) cnt x) 158 v = jfr h 158 v := rfl
    have e2 : jfi (war h (jfr h 156 v) cnt x) 159 v = nI cnt := ec
    rw [e1, e2, ix]
    refine ⟨a2.1, by show jin _ (jln h (jfr h 158 v)); rw [a2.2.2]; exact jin_nI c16 (by decide), ?_⟩
    rintro h9 rfl
    have e3 : jfi (war (war h (jfr h 156 v) cnt x) (jfr h 158 v) cnt tt) 159 v = nI cnt := ec
    rw [e3, nI_1]
    rintro h11 rfl
    exact endV fun _ _ => ⟨c16, rfl⟩
  · have c16 : cnt = 16 := (nI_eq (by omega) (by omega)).mp (show nI cnt = nI 16 from ec.symm.trans g)
    refine useR0 (w_fault (w := "54000") ⟨by decide, by decide +kernel⟩ (by omega)) ?_
    rintro z h6 hI6 _ ⟨y1, y2⟩
    exact ⟨y1, fun _ _ => ⟨c16, y2⟩⟩
theorem SkC.add (C : SkC D A ρ sc E pt L ra rb v gs gr cs cn h h1) (hA : NOK A) (hI1 : JInv D h1) (kd : SelR h ρ0 v y) (l16 : cs.length < 16) (hcn : cn ≤ cs.length + 1) (xL : (x, E.1) ∈ L) (ht : StR h1 tt w) (ty : jfr h1 109 (ρ x) = tyc D τ) (tk : TyOk τ) :
    SkC D A ρ sc E pt L ra rb v gs gr (cs ++ [(x, w, τ)]) (cs.length + 1) h (wfi (war (war h1 (jfr h 156 v) cs.length (ρ x)) (jfr h 158 v) cs.length tt) 159 v (nI (cs.length + 1))) := by
  obtain ⟨P1, G, f160, ⟨f159, _⟩, cl, ⟨s1, s2, s3, s4⟩⟩ := C
  have sg1 := P1.1.2.1
  have kd1 : SelR h1 ρ0 v y := kd.sf sg1
  obtain ⟨v0, vk⟩ := kd.vk
  have vk1 := kd1.vk.2
  have fv := (sg1.at vk (by decide)).2.2.2.2.1
  have b1 := kd1.arr (a := (156, 158, 16)) (by decide)
  have b2 := kd1.arr (a := (158, 160, 16)) (by decide)
  have b3 := kd1.arr (a := (157, 159, 16)) (by decide)
  have b1 : AR h1 (jfr h 156 v) 158 16 := by rw [← fv 156 rfl]; exact b1
  have b2 : AR h1 (jfr h 158 v) 160 16 := by rw [← fv 158 rfl]; exact b2
  have b3 : AR h1 (jfr h 157 v) 159 16 := by rw [← fv 157 rfl]; exact b3
  have ne12 : jfr h 156 v ≠ jfr h 158 v := fun z => by
    have := b1.2.1
    rw [z, b2.2.1] at this
    cases this
  have sm : ∀ q, jkd h1 q ≠ 33 → jkd h1 q ≠ 158 → jkd h1 q ≠ 160 → same h1 (wfi (war (war h1 (jfr h 156 v) cs.length (ρ x)) (jfr h 158 v) cs.length tt) 159 v (nI (cs.length + 1))) q := fun q q1 q2 q3 => ((same_war fun z => q2 (by rw [z]; exact b1.2.1)).tr (same_war fun z => q3 (by rw [z]; exact b2.2.1))).tr (same_wfi fun z => q1 (by rw [z]; exact vk1))
  have fi : ∀ F q, F ≠ 159 → jfi (wfi (war (war h1 (jfr h 156 v) cs.length (ρ x)) (jfr h 158 v) cs.length tt) 159 v (nI (cs.length + 1))) F q = jfi h1 F q := fun F q hF => by
    rw [jfi_wfi, if_neg fun z => hF z.1]
    rfl
  have ja : ∀ q i, q ≠ jfr h 156 v → q ≠ jfr h 158 v → jar (wfi (war (war h1 (jfr h 156 v) cs.length (ρ x)) (jfr h 158 v) cs.length tt) 159 v (nI (cs.length + 1))) q i = jar h1 q i := fun q i q1 q2 => by
    show jar (war (war h1 (jfr h 156 v) cs.length (ρ x)) (jfr h 158 v) cs.length tt) q i = _
    rw [jar_war, if_neg fun z => q2 z.1, jar_war, if_neg fun z => q1 z.1]
  have j1 : ∀ i, jar (wfi (war (war h1 (jfr h 156 v) cs.length (ρ x)) (jfr h 158 v) cs.length tt) 159 v (nI (cs.length + 1))) (jfr h 156 v) i = if i = cs.length then ρ x else jar h1 (jfr h 156 v) i := fun i => by
    show jar (war (war h1 (jfr h 156 v) cs.length (ρ x)) (jfr h 158 v) cs.length tt) (jfr h 156 v) i = _
    rw [jar_war, if_neg fun z => ne12 z.1, jar_war]
    by_cases z : i = cs.length
    · rw [if_pos ⟨rfl, z⟩, if_pos z]
    · rw [if_neg fun g => z g.2, if_neg z]
  have j2 : ∀ i, jar (wfi (war (war h1 (jfr h 156 v) cs.length (ρ x)) (jfr h 158 v) cs.length tt) 159 v (nI (cs.length + 1))) (jfr h 158 v) i = if i = cs.length then tt else jar h1 (jfr h 158 v) i := fun i => by
    show jar (war (war h1 (jfr h 156 v) cs.length (ρ x)) (jfr h 158 v) cs.length tt) (jfr h 158 v) i = _
    rw [jar_war]
    by_cases z : i = cs.length
    · rw [if_pos ⟨rfl, z⟩, if_pos z]
    · rw [if_neg fun g => z g.2, if_neg z, jar_war, if_neg fun z => ne12 z.1.symm]
  have st : ∀ q w, StR h1 q w → StR (wfi (war (war h1 (jfr h 156 v) cs.length (ρ x)) (jfr h 158 v) cs.length tt) 159 v (nI (cs.length + 1))) q w := fun q w k => by
    have z1 := k.2.1
    have z2 := k.2.2.2.2.1
    exact k.of (sm q (by omega) (by omega) (by omega)) (sm _ (by omega) (by omega) (by omega))
  have ce : ∀ c, CelW D h1 c → same h1 (wfi (war (war h1 (jfr h 156 v) cs.length (ρ x)) (jfr h 158 v) cs.length tt) 159 v (nI (cs.length + 1))) c ∧ (jfr h1 67 c ≠ 0 → same h1 (wfi (war (war h1 (jfr h 156 v) cs.length (ρ x)) (jfr h 158 v) cs.length tt) 159 v (nI (cs.length + 1))) (jfr h1 67 c)) := fun c cw => by
    have kc := cw.kd
    refine ⟨sm c (by omega) (by omega) (by omega), fun z => ?_⟩
    have := (cw.2.2.2.2.resolve_left z).1
    exact sm _ (by omega) (by omega) (by omega)
  have kf2 : KF chkK h1 (wfi (war (war h1 (jfr h 156 v) cs.length (ρ x)) (jfr h 158 v) cs.length tt) 159 v (nI (cs.length + 1))) := by
    refine ⟨fun q _ _ q3 _ => sm q (fun z => ?_) (fun z => ?_) (fun z => ?_), Nat.le_refl _, fun _ _ => rfl, fun o => o⟩
    all_goals (rw [z] at q3; cases q3)
  have sf2 : SF D h1 (wfi (war (war h1 (jfr h 156 v) cs.length (ρ x)) (jfr h 158 v) cs.length tt) 159 v (nI (cs.length + 1))) := by
    refine ⟨fun _ _ => rfl, fun q _ _ => ⟨rfl, fun F => ⟨fun g => fi F q fun z => ?_, rfl, fun _ _ => rfl⟩, fun _ _ => ⟨rfl, rfl⟩, fun g _ i => ja q i (fun z => ?_) (fun z => ?_), fun g _ i => ja q i (fun z => ?_) (fun z => ?_)⟩, fun _ _ => rfl, fun q _ cw => ce _ cw, fun c _ _ cw => ce c cw, fun c _ cw => cw.of (ce c cw).1 (ce c cw).2, fun q w k => st q w k, fun o => o, Nat.le_refl _⟩
    · rw [z] at g; cases g
    · rw [z, b1.2.1] at g; cases g
    · rw [z, b2.2.1] at g; cases g
    · rw [z, b1.2.1] at g; cases g
    · rw [z, b2.2.1] at g; cases g
  have sC1 := P1.1.2.2.2.1
  have s6 := sC1.1.2
  have ssc := sm sc (by rw [s6]; decide) (by rw [s6]; decide) (by rw [s6]; decide)
  have sC2 : ScC D (wfi (war (war h1 (jfr h 156 v) cs.length (ρ x)) (jfr h 158 v) cs.length tt) 159 v (nI (cs.length + 1))) sc E := by
    obtain ⟨k1, ⟨k3, k4, k5, k6, k7⟩, ⟨p1, p2, p3, p4⟩, k12⟩ := sC1
    have k41 : jkd h1 (jfr h1 47 sc) = 141 := hI1.ref (F := 47) (by decide +kernel) k3
    have q2 := sm (jfr h1 47 sc) (by rw [k41]; decide) (by rw [k41]; decide) (by rw [k41]; decide)
    have k49 : sbt (jkd h1 (jfr h1 49 sc)) (ftg 49) = true := Or.resolve_left (hI1.2.2.1 49 sc) p1
    have q3 := sm (jfr h1 49 sc) (fun z => by rw [z] at k49; exact absurd k49 (by decide +kernel)) (fun z => by rw [z] at k49; exact absurd k49 (by decide +kernel)) (fun z => by rw [z] at k49; exact absurd k49 (by decide +kernel))
    refine ⟨k1, ⟨k3, k4, by rw [fi 48 _ (by decide)]; exact k5, k6, fun j q hq => ?_⟩, ⟨p1, p2, p3, fun j t ht => ?_⟩, by rw [fi 51 _ (by decide)]; exact k12⟩
    · obtain ⟨a1, a2, a3, a4⟩ := k7 j q hq
      have ea := q2.ar j
      show SrcC D _ (jar _ (jfr h1 47 sc) j) q
      rw [ea]
      exact ⟨a1, a2, st _ _ a3, a4.kf kf2 hI1 rfl ⟨fun k h1 h2 => (f43 k h1 h2).2.2.2.2.2, rfl⟩ ⟨rfl, rfl, rfl, rfl⟩ (hI1.ref (F := 138) (by decide +kernel) a4.1)⟩
    · have ea := q3.ar j
      show jar _ (jfr h1 49 sc) j = _ ∧ _
      rw [ea]
      exact p4 j t ht
  have P2 := P1.mv (a := 0) (b := 0) hA hI1 kf2 sf2.up (P1.1.2.2.1.sf sf2 hA hI1) sC2 (ssc.fi 52) (fun _ _ => rfl) (Nat.le_refl _) (Nat.le_refl _) (fun k F _ hF => fi F _ (by omega))
  have ea7 : ∀ i, jar (wfi (war (war h1 (jfr h 156 v) cs.length (ρ x)) (jfr h 158 v) cs.length tt) 159 v (nI (cs.length + 1))) (jfr h 157 v) i = jar h1 (jfr h 157 v) i := fun i => ja _ i (fun z => by have := b3.2.1; rw [z, b1.2.1] at this; cases this) (fun z => by have := b3.2.1; rw [z, b2.2.1] at this; cases this)
  refine ⟨P2, ?_, by rw [fi 160 _ (by decide)]; exact f160, ⟨?_, ?_⟩, fun i cc hc => ?_, fun i hi => ?_, fun i j => ?_, fun i k hi hk z => ?_, fun i => ?_⟩
  · obtain ⟨⟨g1, g2, g3, g4, g5, g6⟩, g7⟩ := G
    have q3 := sm (jfr h1 53 sc) (by rw [g7]; decide) (by rw [g7]; decide) (by rw [g7]; decide)
    exact ⟨⟨g1, by rw [fi 54 _ (by decide)]; exact g2, g3, g4, g5, fun k g hg => (q3.ar k).trans (g6 k g hg)⟩, g7⟩
  · rw [jfi_wfi, if_pos ⟨rfl, rfl⟩, List.length_append]; rfl
  · rw [List.length_append]; exact l16
  · rw [j1, j2]
    show (if i = cs.length then ρ x else jar h1 (jfr h 156 v) i) = ρ cc.1 ∧ StR _ (if i = cs.length then tt else jar h1 (jfr h 158 v) i) cc.2.1 ∧ jfr h1 109 (ρ cc.1) = _ ∧ _
    rcases get_snoc hc with ⟨g1, g2⟩ | ⟨g1, g2⟩
    · rw [if_pos g1, if_pos g1, g2]
      exact ⟨rfl, st _ _ ht, ty, tk, xL⟩
    · rw [if_neg g1, if_neg g1]
      obtain ⟨a1, a2, a3, a4, a5⟩ := cl i cc g2
      exact ⟨a1, st _ _ a2, a3, a4, a5⟩
  · rw [ea7]
    rcases s1 i hi with z | z
    · exact Or.inl z
    · exact Or.inr (z.sf sf2 hI1)
  · rw [ea7, ea7]; exact s2 i j
  · rw [ea7] at z
    have := s3 i k hi hk z
    omega
  · rw [ea7]; exact s4 i
end
