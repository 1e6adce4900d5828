/-! the component: functions -/
section
variable {D : JD} {h h' h'' hm h0 h1 h2 h3 hb : JH} {ρ : Nat → Nat} {A : List Nod} {E Ec : TEnv} {d sc r x i n f c q lo hi t : Nat} {M : Nat → Prop} {pv : List Val} {grp : List TRow} {R : TRow} {G : TRow → JH → Prop} {wi : Bool} {z : Ex Val} {w : Val}
theorem kn_cases {s : Str} {c : Nat} (h : knC s c = true) : ((s = sStr "abs" ∨ s = sStr "length" ∨ s = sStr "upper" ∨ s = sStr "lower") ∧ c = 1) ∨ (s = sStr "substr" ∧ c = 3) ∨ (s = sStr "coalesce" ∧ c ≠ 0) ∨ (s = sStr "nullif" ∧ c = 2) := by
  unfold knC at h
  split at h
  · rename_i e
    exact Or.inl ⟨e, by simpa using h⟩
  · split at h
    · rename_i e
      exact Or.inr (Or.inl ⟨e, by simpa using h⟩)
    · split at h
      · rename_i e
        exact Or.inr (Or.inr (Or.inl ⟨e, by simpa using h⟩))
      · split at h
        · rename_i e
          exact Or.inr (Or.inr (Or.inr ⟨e, by simpa using h⟩))
        · cases h
theorem call_ty (hg : tGather (ndS (nat_ A i)) = false) (ht : tTree A Ec (f + 1) wi i = .ok t) : ∃ ts, ts.length = (ndP (nat_ A i)).length ∧ (∀ (k p : Nat), (ndP (nat_ A i))[k]? = some p → ∃ u, ts[k]? = some u ∧ tTree A Ec f wi p = .ok u) ∧ tNode Ec wi (nat_ A i) ts = .ok t := by
  rw [tTree_eq] at ht
  have : (wi || (ndO (nat_ A i) == 3 && tGather (ndS (nat_ A i)))) = wi := by rw [hg]; simp
  rw [this] at ht
  obtain ⟨ts, hm, ht⟩ := bnd ht
  exact ⟨ts, mapM_len hm, mapM_get hm, ht⟩
/-- a function of values none of which is missing -/
theorem w_eFun2 {va vb vc : Nat} {a b c : Val} {x6 : Int32} (C : EvC A E Ec ρ pv grp) (S : EvS D A E Ec ρ sc pv G R i h h1) (il : i < A.length) (o0 : ndO (nat_ A i) ≠ 0) (st : StR h1 (jfr h1 116 (ρ i)) (ndS (nat_ A i))) (ka : Cel D h1 va a) (kb : Cel D h1 vb b) (kc : Cel D h1 vc c) (na : va ≠ jfr h1 108 (ρ i))
    (a0 : a.1 ≠ 0) (b0 : b.1 ≠ 0) (c0 : c.1 ≠ 0) (ta : VT (if ndS (nat_ A i) = sStr "abs" then 20 else 25) a) (tb : ndS (nat_ A i) = sStr "substr" → VT 20 b ∧ VT 20 c) (hz : z = fnV (ndS (nat_ A i)) a b c) (ns : ndS (nat_ A i) ≠ sStr "nullif")
    (hx : (x6 = 0 ∧ ndS (nat_ A i) = sStr "abs") ∨ (x6 = 1 ∧ ndS (nat_ A i) = sStr "length") ∨ (x6 = 2 ∧ ndS (nat_ A i) = sStr "substr") ∨ (x6 = -1 ∧ ndS (nat_ A i) ≠ sStr "abs" ∧ ndS (nat_ A i) ≠ sStr "length" ∧ ndS (nat_ A i) ≠ sStr "substr")) (hd : 10 ≤ d) :
    W_X29_at_309 D d (EQ D A E ρ sc pv i R hb h z) (ρ i) va vb vc x6 h1 := by
  have nr := S.2.1 i il
  have own := nr.2.2.1.1
  have hz : z = (if (ndS (nat_ A i) == sStr "abs") = true then xNum (sAbs a.2.1) else if (ndS (nat_ A i) == sStr "length") = true then xNum (Int64.ofNat a.2.2.length) else if (ndS (nat_ A i) == sStr "substr") = true then (if c.2.1 < 0 then xErr "22011" else xTxt (vPiece a.2.2 b.2.1 c.2.1)) else xTxt (vCased (ndS (nat_ A i) == sStr "upper") a.2.2)) := by
    rw [hz]
    unfold fnV
    rw [if_neg (show ¬ (ndS (nat_ A i) == sStr "nullif") = true by simpa using ns), if_neg (show ¬ (a.1 == 0 || (b.1 == 0 || c.1 == 0)) = true by simp [a0, b0, c0])]
  rcases hx with ⟨rfl, e⟩ | ⟨rfl, e⟩ | ⟨rfl, e⟩ | ⟨rfl, e1, e2, e3⟩
  · refine ⟨fun _ => ⟨nr.1, ka.1.1, JW.up (n := 1) (fun y => useL0 (k_cNum (d := y) ka.1.1) ?_) (by omega)⟩, fun y => absurd y (by decide), fun y => absurd y (by decide), fun y => absurd rfl y⟩
    rintro v3 h3 hI3 _ ⟨rfl, he3⟩
    have he3 := he3.symm
    subst he3
    refine JW.up (n := 1) (fun y => useL0 (k_abs (d := y)) ?_) (by omega)
    rintro v4 h4 hI4 _ ⟨rfl, he4⟩
    have he4 := he4.symm
    subst he4
    rw [if_pos e] at ta
    obtain ⟨m, rfl, _⟩ := VT.num ta a0
    rw [ka.num]
    rw [if_pos (by simpa using e)] at hz
    exact ⟨own, fin_number C S il o0 hz (by omega)⟩
  · have na : ndS (nat_ A i) ≠ sStr "abs" := nmNe e "abs" (by decide +kernel)
    rw [if_neg na] at ta
    obtain ⟨s, rfl, s1, s2⟩ := VT.txt ta a0
    rw [if_neg (by simpa using na), if_pos (by simpa using e)] at hz
    refine ⟨fun y => absurd y (by decide), fun _ => ⟨nr.1, ka.1.1, JW.up (n := 1) (fun y => useI0 (k_cSize (d := y) ka.1.1) ?_) (by omega)⟩, fun y => absurd y (by decide), fun _ y => absurd rfl y⟩
    rintro v3 h3 hI3 _ ⟨rfl, he3⟩
    have he3 := he3.symm
    subst he3
    rw [ka.tx.2.2.2.2.1, nI_l (by omega)]
    exact ⟨own, fin_number C S il o0 hz (by omega)⟩
  · have na' : ndS (nat_ A i) ≠ sStr "abs" := nmNe e "abs" (by decide +kernel)
    have nl : ndS (nat_ A i) ≠ sStr "length" := nmNe e "length" (by decide +kernel)
    rw [if_neg na'] at ta
    obtain ⟨s, rfl, s1, s2⟩ := VT.txt ta a0
    obtain ⟨m, rfl, m1⟩ := VT.num (tb e).1 b0
    obtain ⟨k, rfl, k1⟩ := VT.num (tb e).2 c0
    rw [if_neg (by simpa using na'), if_neg (by simpa using nl), if_pos (by simpa using e)] at hz
    refine ⟨fun y => absurd y (by decide), fun y => absurd y (by decide), fun _ => ⟨kb.1.1, JW.up (n := 1) (fun y => useL0 (k_cNum (d := y) kb.1.1) ?_) (by omega)⟩, fun _ _ y => absurd rfl y⟩
    rintro v3 h3 hI3 _ ⟨rfl, he3⟩
    have he3 := he3.symm
    subst he3
    refine ⟨kc.1.1, JW.up (n := 1) (fun y => useL0 (k_cNum (d := y) kc.1.1) ?_) (by omega)⟩
    rintro v4 h4 hI4 _ ⟨rfl, he4⟩
    have he4 := he4.symm
    subst he4
    rw [kb.num, kc.num]
    exact ⟨nr.1, EQ.in (w_ePiece C S il o0 ka na m1 k1 hz (by omega))⟩
  · rw [if_neg e1] at ta
    obtain ⟨s, rfl, s1, s2⟩ := VT.txt ta a0
    rw [if_neg (by simpa using e1), if_neg (by simpa using e2), if_neg (by simpa using e3)] at hz
    refine ⟨fun y => absurd y (by decide), fun y => absurd y (by decide), fun y => absurd y (by decide), fun _ _ _ => ⟨nr.1, st.1, JW.inv fun hI => ?_⟩⟩
    have kk : StR h1 (jcs D 159) (sStr "upper") := by
      rw [← show jcon 159 = sStr "upper" by decide +kernel]
      exact k_const hI (by decide)
    refine JW.up (n := 2) (fun y => useI0 (k_equals (d := y) st kk) ?_) (by omega)
    rintro v3 h3 hI3 _ ⟨rfl, he3⟩
    have he3 := he3.symm
    subst he3
    have ex : (if ndS (nat_ A i) = sStr "upper" then (1 : Int32) else 0) = (if (ndS (nat_ A i) == sStr "upper") = true then 1 else 0) := by
      by_cases e : ndS (nat_ A i) = sStr "upper"
      · rw [if_pos e, if_pos (by simpa using e)]
      · rw [if_neg e, if_neg (by simpa using e)]
    rw [ex]
    exact EQ.in (w_eCased C S il o0 ka hz s2 (by omega))
theorem w_eFun {va vb vc : Nat} {a b c : Val} (C : EvC A E Ec ρ pv grp) (hG : EvG D A ρ sc G) (S : EvS D A E Ec ρ sc pv G R i h h1) (hI : JInv D h1) (il : i < A.length) (o0 : ndO (nat_ A i) ≠ 0) (st : StR h1 (jfr h1 116 (ρ i)) (ndS (nat_ A i))) (ka : Cel D h1 va a) (kb : Cel D h1 vb b) (kc : Cel D h1 vc c) (na : va ≠ jfr h1 108 (ρ i))
    (ta : VT (if ndS (nat_ A i) = sStr "abs" then 20 else 25) a) (tb : ndS (nat_ A i) = sStr "substr" → VT 20 b ∧ VT 20 c) (hz : z = fnV (ndS (nat_ A i)) a b c) (ns : ndS (nat_ A i) ≠ sStr "nullif") (hd : 10 ≤ d) :
    W_X29_at_183 D d (EQ D A E ρ sc pv i R hb h z) (ρ i) va vb vc h1 := by
  have nr := S.2.1 i il
  have none : (a.1 == 0 || (b.1 == 0 || c.1 == 0)) = true → W_X29_at_207 D d (EQ D A E ρ sc pv i R hb h z) (ρ i) h1 := fun y =>
    ⟨nr.1, nr.2.2.1.1, fin_none C S il o0 (by rw [hz]; unfold fnV; rw [if_neg (show ¬ (ndS (nat_ A i) == sStr "nullif") = true by simpa using ns), if_pos y]) (by omega)⟩
  refine ⟨ka.1.1, JW.up (n := 1) (fun y => useI0 (k_cEmpty (d := y) ka) ?_) (by omega)⟩
  rintro v3 h4 hI4 _ ⟨rfl, he4⟩
  have he4 := he4.symm
  subst he4
  by_cases a0 : a.1 = 0
  · rw [if_pos a0]
    exact ⟨fun _ => none (by simp [a0]), fun y => absurd y (by decide)⟩
  rw [if_neg a0]
  refine ⟨fun y => absurd rfl y, fun _ => ⟨kb.1.1, JW.up (n := 1) (fun y => useI0 (k_cEmpty (d := y) kb) ?_) (by omega)⟩⟩
  rintro v4 h5 hI5 _ ⟨rfl, he5⟩
  have he5 := he5.symm
  subst he5
  by_cases b0 : b.1 = 0
  · rw [if_pos b0]
    exact ⟨fun _ => none (by simp [b0]), fun y => absurd y (by decide)⟩
  rw [if_neg b0]
  refine ⟨fun y => absurd rfl y, fun _ => ⟨kc.1.1, JW.up (n := 1) (fun y => useI0 (k_cEmpty (d := y) kc) ?_) (by omega)⟩⟩
  rintro v5 h6 hI6 _ ⟨rfl, he6⟩
  have he6 := he6.symm
  subst he6
  by_cases c0 : c.1 = 0
  · rw [if_pos c0]
    exact ⟨fun y => absurd y (by decide), fun _ => none (by simp [c0])⟩
  rw [if_neg c0]
  refine ⟨fun _ => ⟨nr.1, st.1, JW.up (n := 4) (fun y => useI0 (k_hash (d := y) st) ?_) (by omega)⟩, fun y => absurd rfl y⟩
  rintro v7 h7 hI7 _ ⟨rfl, hh⟩
  have S7 := S.hs C hG hh hI
  have ef : ∀ F q, jfr h7 F q = jfr h1 F q := by
    rcases hh with rfl | ⟨r, s, hs, hk, rfl | ⟨rfl, hz⟩⟩ <;> exact fun _ _ => rfl
  have st7 : StR h7 (jfr h7 116 (ρ i)) (ndS (nat_ A i)) := by rw [ef]; exact hh.st st
  have go : ∀ x6 : Int32, ((x6 = 0 ∧ ndS (nat_ A i) = sStr "abs") ∨ (x6 = 1 ∧ ndS (nat_ A i) = sStr "length") ∨ (x6 = 2 ∧ ndS (nat_ A i) = sStr "substr") ∨ (x6 = -1 ∧ ndS (nat_ A i) ≠ sStr "abs" ∧ ndS (nat_ A i) ≠ sStr "length" ∧ ndS (nat_ A i) ≠ sStr "substr")) → W_X29_at_309 D d (EQ D A E ρ sc pv i R hb h z) (ρ i) va vb vc x6 h7 := fun x6 hx =>
    w_eFun2 C S7 il o0 st7 (hh.cel hI ka) (hh.cel hI kb) (hh.cel hI kc) (by rw [ef]; exact na) a0 b0 c0 ta tb hz ns hx hd
  rw [← ef 116]
  have hl : jhash (sStr "length") = -1106363674 := by decide +kernel
  have hs : jhash (sStr "substr") = -891529231 := by decide +kernel
  have ha : jhash (sStr "abs") = 96370 := by decide +kernel
  have ne : ∀ {w : String} {v : Int32} (u : Int32), jhash (sStr w) = v → jhash (ndS (nat_ A i)) = u → v ≠ u → ndS (nat_ A i) ≠ sStr w := fun u e1 e2 e3 e => by
    rw [e] at e2
    exact e3 (e1.symm.trans e2)
  refine ⟨fun y => ?_, fun y => ?_, fun y => ?_, fun y1 y2 y3 => ?_⟩
  · exact w_eq' (w := "length") st7 ⟨by decide, by decide +kernel⟩ (by omega) (fun e => go 1 (Or.inr (Or.inl ⟨rfl, e⟩))) fun e => go (-1) (Or.inr (Or.inr (Or.inr ⟨rfl, ne _ ha y (by decide), e, ne _ hs y (by decide)⟩)))
  · exact w_eq' (w := "substr") st7 ⟨by decide, by decide +kernel⟩ (by omega) (fun e => go 2 (Or.inr (Or.inr (Or.inl ⟨rfl, e⟩)))) fun e => go (-1) (Or.inr (Or.inr (Or.inr ⟨rfl, ne _ ha y (by decide), ne _ hl y (by decide), e⟩)))
  · exact w_eq' (w := "abs") st7 ⟨by decide, by decide +kernel⟩ (by omega) (fun e => go 0 (Or.inl ⟨rfl, e⟩)) fun e => go (-1) (Or.inr (Or.inr (Or.inr ⟨rfl, e, ne _ hl y (by decide), ne _ hs y (by decide)⟩)))
  · exact go (-1) (Or.inr (Or.inr (Or.inr ⟨rfl, fun e => y3 (by rw [e]; exact ha), fun e => y1 (by rw [e]; exact hl), fun e => y2 (by rw [e]; exact hs)⟩)))
theorem ev_call (C : EvC A E Ec ρ pv grp) (hG : EvG D A ρ sc G) (IH : EVX D A E Ec ρ sc pv grp G f) (hi : i < f + 1) (il : i < A.length) (hB : HB A (n + 1) i) (o : ndO (nat_ A i) = 3) (hk : ndK (nat_ A i) = 0) (hg : tGather (ndS (nat_ A i)) = false) (S : EvI D A E Ec ρ sc pv G R h) (pl : PlT A E h ρ (f + 1) i) (ht : tTree A Ec (f + 1) wi i = .ok t) (hd : 2 * n + 21 ≤ d) :
    cX29_at D d (ρ i) sc h (EQ D A E ρ sc pv i R h h (eTree A E pv grp (f + 1) R i)) := by
  obtain ⟨e, rfl, he⟩ := dsucc hd
  obtain ⟨ts, tl, tg, t3⟩ := call_ty hg ht
  have nk : nkd (nat_ A i) = 23 := by
    unfold nkd
    rw [o]
    show (if ndK (nat_ A i) = 1 ∨ tGather (ndS (nat_ A i)) = true then 22 else 23) = 23
    rw [if_neg (by rw [hk, hg]; decide)]
  unfold tNode at t3
  rw [o, hk] at t3
  have t3 : tFun Ec wi (ndS (nat_ A i)) false ts = .ok t := t3
  rw [tFun_call hg] at t3
  have kn : knC (ndS (nat_ A i)) ts.length = true := by
    by_cases q : knC (ndS (nat_ A i)) ts.length = true
    · exact q
    · rw [if_neg q] at t3; cases t3
  rw [if_pos kn] at t3
  have kn := kn_cases kn
  rw [tl] at kn
  have nr := S.1 i il
  have o0 : ndO (nat_ A i) ≠ 0 := by omega
  have str : ∀ {hx : JH}, EvS D A E Ec ρ sc pv G R i h hx → StR hx (jfr hx 116 (ρ i)) (ndS (nat_ A i)) := fun k => ((k.2.1 i il).2.2.2.2.2.2.1 o).2 nk
  have f4 : ∀ {hx : JH}, EvS D A E Ec ρ sc pv G R i h hx → jfi hx 112 (ρ i) = nI (ndP (nat_ A i)).length := fun k => ((k.2.1 i il).2.2.2.2.2.2.2.1 (Or.inl o)).2.2.1
  have e3 := eT_3 (E := E) (pv := pv) (grp := grp) (f := f) (R := R) o
  rw [if_neg (show ¬ tGather (ndS (nat_ A i)) = true by rw [hg]; decide)] at e3
  have st := str (EvS.rf S)
  refine JW.inv fun hI => t_X29_at ⟨nr.1, st.1, w_eq' (w := "coalesce") st ⟨by decide, by decide +kernel⟩ (by omega) (fun c1 => ?_) fun c1 => ?_⟩
  · exact ⟨(ndP (nat_ A i)).length + 1, w_eCoL C hG IH hi il hB o S hI (by omega) tg _ 0 h hI (by omega) (EvS.rf S) pl.2 (by rw [e3, if_pos (by simpa using c1)]; rfl)⟩
  rw [if_neg (show ¬ (ndS (nat_ A i) == sStr "coalesce") = true by simpa using c1)] at e3
  have l1 : 1 ≤ (ndP (nat_ A i)).length ∧ (ndP (nat_ A i)).length ≤ 3 := by
    rcases kn with k | k | k | k
    · omega
    · omega
    · exact absurd k.1 c1
    · omega
  obtain ⟨p0, h0⟩ : ∃ p0, (ndP (nat_ A i))[0]? = some p0 := ⟨_, List.getElem?_eq_getElem (by omega)⟩
  obtain ⟨g1, g2, g3, g4, g5, g6⟩ := (EvS.rf S).part C il (by omega) h0
  obtain ⟨v, v1, v2⟩ := tg 0 p0 h0
  have pm := List.mem_of_getElem? h0
  have evk : ∀ {k p : Nat}, (ndP (nat_ A i))[k]? = some p → evK A E pv grp f R i k = eTree A E pv grp f R p := fun {k p} hk => by unfold evK; rw [List.getD_eq_getElem?_getD, hk]; rfl
  rw [evk h0] at e3
  refine ⟨g1, g2, ?_⟩
  rw [show (0 : Int32) = nI 0 from rfl, g3]
  refine ⟨g4, useAt (w_evNext C hG IH hi il hB pm S hI (EvS.rf S) (pl.2 p0 pm) v2 (by omega)) ?_ ?_⟩
  · rintro va h1 _ hI1 ⟨a, a1, a2, a3, a4, S1, a6, a7, -⟩
    rw [a1, ok_bind] at e3
    have na := a4.ne S1.2 hI1 C.2.1 (by omega) il (by omega)
    have st1 := str S1
    refine ⟨nr.1, st1.1, w_eq' (w := "nullif") st1 ⟨by decide, by decide +kernel⟩ (by omega) (fun c2 => ?_) fun c2 => ?_⟩
    · have l2 : (ndP (nat_ A i)).length = 2 := by
        rcases kn with ⟨k | k | k | k, _⟩ | k | k | k
        · exact absurd k (nmNe c2 _ (by decide +kernel))
        · exact absurd k (nmNe c2 _ (by decide +kernel))
        · exact absurd k (nmNe c2 _ (by decide +kernel))
        · exact absurd k (nmNe c2 _ (by decide +kernel))
        · exact absurd k.1 (nmNe c2 _ (by decide +kernel))
        · exact absurd k.1 c1
        · exact k.2
      obtain ⟨p1, h1'⟩ : ∃ p0, (ndP (nat_ A i))[1]? = some p0 := ⟨_, List.getElem?_eq_getElem (by omega)⟩
      obtain ⟨v', v1', v2'⟩ := tg 1 p1 h1'
      have pm1 := List.mem_of_getElem? h1'
      have til1 := (Til.lt (C.1 i il).2.1).2 p1 pm1
      have ord1 := Til.ord (C.1 i il).2.1 0 1 p0 p1 (by omega) h0 h1'
      rw [if_pos (show 1 < (ndP (nat_ A i)).length by omega), if_neg (show ¬ 2 < (ndP (nat_ A i)).length by omega), evk h1'] at e3
      rw [if_pos (Or.inr c2)] at t3
      have t1 := (one_sub ts 0 t t3).2
      obtain ⟨q1, q2, q3, q4, q5, q6⟩ := S1.part C il (by omega) h1'
      refine ⟨q1, q2, ?_⟩
      rw [show (1 : Int32) = nI 1 from rfl, q3]
      refine ⟨q4, useAt (w_evNext C hG IH hi il hB pm1 S hI S1 (a7 p1 (by omega) (pl.2 p1 pm1)) v2' (by omega)) ?_ ?_⟩
      · rintro vb h2 _ hI2 ⟨b, b1, b2, b3, b4, S2, b6, b7, -⟩
        have ka2 := a4.keep S1.2 hI1 C.2.1 (by omega) a2 b6 (Or.inr ord1)
        refine w_eNull C S2 il o0 ka2.1 b2 (a3.sub (t1 v (List.mem_of_getElem? v1))) (b3.sub (t1 v' (List.mem_of_getElem? v1'))) ?_ (by omega)
        rw [e3, b1, ok_bind, ok_bind]
        unfold fnV
        rw [if_pos (by simpa using c2)]
      · rintro y h2 _ hI2 ⟨c, hm, c1, c2, c3⟩
        exact endX fun _ _ => ⟨c, hm, by rw [e3, c1]; rfl, c2, c3⟩
    · rw [if_neg (show ¬ (ndS (nat_ A i) = sStr "coalesce" ∨ ndS (nat_ A i) = sStr "nullif") by rintro (q | q); exact c1 q; exact c2 q)] at t3
      unfold caS at t3
      obtain ⟨u1, f1, t3⟩ := bnd t3
      obtain ⟨u2, f2, t3⟩ := bnd t3
      have hdv : ts.headD 0 = v := by
        match ts, v1 with
        | x :: l, v1 =>
          rw [List.getElem?_cons_zero] at v1
          cases v1; rfl
      rw [hdv] at f1
      cases u1
      have ta := a3.sub (fits_sub f1 (by split <;> decide))
      by_cases l3 : (ndP (nat_ A i)).length = 1
      · rw [if_neg (show ¬ 1 < (ndP (nat_ A i)).length by omega), if_neg (show ¬ 2 < (ndP (nat_ A i)).length by omega), ok_bind, ok_bind] at e3
        have nsu : ndS (nat_ A i) ≠ sStr "substr" := fun q => by
          rcases kn with ⟨k | k | k | k, _⟩ | k | k | k
          · exact absurd k (nmNe q _ (by decide +kernel))
          · exact absurd k (nmNe q _ (by decide +kernel))
          · exact absurd k (nmNe q _ (by decide +kernel))
          · exact absurd k (nmNe q _ (by decide +kernel))
          · omega
          · exact c1 k.1
          · exact c2 k.1
        have fn := w_eFun (hb := h) (d := e) C hG S1 hI1 il o0 st1 a2 a2 a2 na ta (fun q => absurd q nsu) e3 c2 (by omega)
        refine ⟨fun _ => ⟨nr.1, fun _ => fn, fun y => absurd ?_ y⟩, fun y => absurd ?_ y⟩
        · rw [f4 S1, l3]; decide
        · rw [f4 S1, l3]; decide
      · have su : ndS (nat_ A i) = sStr "substr" ∧ (ndP (nat_ A i)).length = 3 := by
          rcases kn with k | k | k | k
          · exact absurd k.2 l3
          · exact k
          · exact absurd k.1 c1
          · exact absurd k.1 c2
        obtain ⟨p1, h1'⟩ : ∃ p0, (ndP (nat_ A i))[1]? = some p0 := ⟨_, List.getElem?_eq_getElem (by omega)⟩
        obtain ⟨p2, h2'⟩ : ∃ p0, (ndP (nat_ A i))[2]? = some p0 := ⟨_, List.getElem?_eq_getElem (by omega)⟩
        obtain ⟨v', v1', v2'⟩ := tg 1 p1 h1'
        obtain ⟨w, w1, w2⟩ := tg 2 p2 h2'
        have pm1 := List.mem_of_getElem? h1'
        have pm2 := List.mem_of_getElem? h2'
        have til1 := (Til.lt (C.1 i il).2.1).2 p1 pm1
        have til2 := (Til.lt (C.1 i il).2.1).2 p2 pm2
        have ord1 := Til.ord (C.1 i il).2.1 0 1 p0 p1 (by omega) h0 h1'
        have ord2 := Til.ord (C.1 i il).2.1 0 2 p0 p2 (by omega) h0 h2'
        have ord3 := Til.ord (C.1 i il).2.1 1 2 p1 p2 (by omega) h1' h2'
        have ta2 := all_sub _ 20 (by decide) f2
        have tb1 : v' = 0 ∨ v' = 20 := ta2 v' (List.mem_of_getElem? (i := 0) (by rw [List.getElem?_drop]; exact v1'))
        have tb2 : w = 0 ∨ w = 20 := ta2 w (List.mem_of_getElem? (i := 1) (by rw [List.getElem?_drop]; exact w1))
        rw [if_pos (show 1 < (ndP (nat_ A i)).length by omega), if_pos (show 2 < (ndP (nat_ A i)).length by omega), evk h1', evk h2'] at e3
        obtain ⟨q1, q2, q3, q4, q5, q6⟩ := S1.part C il (by omega) h1'
        refine ⟨fun y => absurd y ?_, fun _ => ⟨q1, q2, ?_⟩⟩
        · rw [f4 S1, su.2]; decide
        rw [show (1 : Int32) = nI 1 from rfl, q3]
        refine ⟨q4, useAt (w_evNext C hG IH hi il hB pm1 S hI S1 (a7 p1 (by omega) (pl.2 p1 pm1)) v2' (by omega)) ?_ ?_⟩
        · rintro vb h2 _ hI2 ⟨b, b1, b2, b3, b4, S2, b6, b7, -⟩
          rw [b1, ok_bind] at e3
          have ka2 := a4.keep S1.2 hI1 C.2.1 (by omega) a2 b6 (Or.inr ord1)
          obtain ⟨r1, r2, r3, r4, r5, r6⟩ := S2.part C il (by omega) h2'
          refine ⟨nr.1, fun y => absurd y ?_, fun _ => ⟨r1, r2, ?_⟩⟩
          · rw [f4 S2, su.2]; decide
          rw [show (2 : Int32) = nI 2 from rfl, r3]
          refine ⟨r4, useAt (w_evNext C hG IH hi il hB pm2 S hI S2 (b7 p2 (by omega) (a7 p2 (by omega) (pl.2 p2 pm2))) w2 (by omega)) ?_ ?_⟩
          · rintro vc h3 _ hI3 ⟨c, k1, k2, k3, k4, S3, k6, k7, -⟩
            rw [k1, ok_bind] at e3
            have ka3 := ka2.2.keep S2.2 hI2 C.2.1 (by omega) ka2.1 k6 (Or.inr ord2)
            have kb3 := b4.keep S2.2 hI2 C.2.1 (by omega) b2 k6 (Or.inr ord3)
            exact w_eFun C hG S3 hI3 il o0 (str S3) ka3.1 kb3.1 k2 (ka3.2.ne S3.2 hI3 C.2.1 (by omega) il (by omega)) ta (fun _ => ⟨b3.sub tb1, k3.sub tb2⟩) e3 c2 (by omega)
          · rintro y h3 _ hI3 ⟨c, hm, c1, c2, c3⟩
            exact endX fun _ _ => ⟨c, hm, by rw [e3, c1]; rfl, c2, c3⟩
        · rintro y h2 _ hI2 ⟨c, hm, c1, c2, c3⟩
          exact endX fun _ _ => ⟨c, hm, by rw [e3, c1]; rfl, c2, c3⟩
  · rintro y h1 _ hI1 ⟨c, hm, c1, c2, c3⟩
    exact endX fun _ _ => ⟨c, hm, by rw [e3, c1]; rfl, c2, c3⟩
end
