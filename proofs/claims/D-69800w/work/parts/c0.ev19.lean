/-! the component: one row of the group after the other -/
section
variable {D : JD} {h h' h'' hm h0 h1 h2 h3 hb : JH} {ρ : Nat → Nat} {A : List Nod} {E Ec : TEnv} {d sc r x i n f c q lo hi t : Nat} {M : Nat → Prop} {pv : List Val} {grp : List TRow} {R : TRow} {G : TRow → JH → Prop} {wi : Bool} {z : Ex Val} {w : Val}
theorem gs_nul {s : Str} {q : Nat × Val} {v : Val} (e : v.1 = 0) : gStep s q v = .ok q := by
  unfold gStep
  rw [if_pos (by simpa using e)]
theorem gs_sum {s : Str} {q : Nat × Val} {v : Val} (e : v.1 ≠ 0) (hs : s = sStr "sum") (hq : q.1 ≠ 0) : gStep s q v = (xNum (q.2.2.1 + v.2.1)).map fun x => (q.1 + 1, x) := by
  unfold gStep
  rw [if_neg (by simpa using e), if_pos (by simp [hs, hq])]
theorem gs_new {s : Str} {q : Nat × Val} {v : Val} (e : v.1 ≠ 0) (hs : s = sStr "sum" → q.1 = 0) (hb : (q.1 == 0 || ((s == sStr "min" && decide (vCmp v q.2 < 0)) || (s == sStr "max" && decide (0 < vCmp v q.2)))) = true) : gStep s q v = .ok (q.1 + 1, v) := by
  unfold gStep
  rw [if_neg (by simpa using e), if_neg (by simpa using hs), if_pos hb]
theorem gs_old {s : Str} {q : Nat × Val} {v : Val} (e : v.1 ≠ 0) (hs : s = sStr "sum" → q.1 = 0) (hb : (q.1 == 0 || ((s == sStr "min" && decide (vCmp v q.2 < 0)) || (s == sStr "max" && decide (0 < vCmp v q.2)))) = false) : gStep s q v = .ok (q.1 + 1, q.2) := by
  unfold gStep
  rw [if_neg (by simpa using e), if_neg (by simpa using hs), if_neg (by rw [hb]; decide)]
/-- the end of an aggregate -/
def agE (s : Str) (q : Nat × Val) : Ex Val := if (s == sStr "count") = true then xNum (Int64.ofNat q.1) else .ok q.2
theorem w_agL {p u0 u : Nat} (C : EvC A E Ec ρ pv grp) (IH0 : EVX D A E (Ec0 Ec) ρ sc pv grp (GA D E sc grp) f) (hR : grp = [] ∨ grp.head? = some R) (rk : RowOk Ec R) (hi : i < f + 1) (il : i < A.length) (hB : HB A (n + 1) i) (o : ndO (nat_ A i) = 3) (nk : nkd (nat_ A i) = 22) (hk : ndK (nat_ A i) = 0) (hp : (ndP (nat_ A i))[0]? = some p) (ht : tTree A Ec f true p = .ok u0) (hu : u0 = 0 ∨ u0 = u) (hsum : ndS (nat_ A i) = sStr "sum" → u = 20) (gl : grp.length ≤ 10000) (hd : 2 * n + 20 ≤ d) :
    ∀ (m k qc : Nat) (qv : Val) (h1 : JH), JInv D h1 → k + m = grp.length → AgS D A E ρ sc pv grp R i p f h h1 → Cel D h1 (jfr h1 115 (ρ i)) qv → qc ≤ k → (qc = 0 → qv = vNull) → (qc ≠ 0 → qv.1 ≠ 0) → VT u qv → eTree A E pv grp (f + 1) R i = ((grp.drop k).foldlM (agF A E pv grp f (ndS (nat_ A i)) p) (qc, qv) >>= agE (ndS (nat_ A i))) →
    L_X28_at_13 D d (EQ D A E ρ sc pv i R h h (eTree A E pv grp (f + 1) R i)) (m + 1) (ρ i) sc (lN qc) (nI k) h1
  | m, k, qc, qv, h1, hI1, hkm, S, kb, ql, q0, q1, qt, ez => by
    have pm := List.mem_of_getElem? hp
    have til := (Til.lt (C.1 i il).2.1).2 p pm
    have pl : ndK (nat_ A i) = 0 → p < A.length := fun _ => by omega
    obtain ⟨g1, g2, g3⟩ := S.2.2.2.2.1
    refine ⟨g1.1.1, fun y => ?_, fun y => ?_⟩
    · rw [g2] at y
      have y := (nI_leI (by omega) (by omega)).mp y
      exact w_agEnd C S hI1 hR rk pl il o nk (fun _ => kb) (by rw [ez, List.drop_eq_nil_of_le (by omega)]; rfl) (by omega) gl
    · rw [g2] at y
      have kl : k < grp.length := Nat.lt_of_not_le fun z => y ((nI_leI (by omega) (by omega)).mpr z)
      obtain ⟨m', rfl⟩ : ∃ m', m = m' + 1 := ⟨m - 1, by omega⟩
      have gn : grp ≠ [] := fun e => by rw [e] at kl; exact absurd kl (Nat.not_lt_zero _)
      obtain ⟨st, t1, ⟨t2, t3⟩, t4, t5⟩ := g3 gn
      have hrr : grp[k]? = some grp[k] := List.getElem?_eq_getElem kl
      rw [List.drop_eq_getElem_cons kl, List.foldlM_cons] at ez
      generalize grp[k] = rr at hrr ez
      obtain ⟨tn, n1, n2, n3⟩ := t5 k _ hrr
      obtain ⟨R', en⟩ := S.2.2.2.1
      have rm := List.mem_of_getElem? hrr
      rw [t1, nI_add]
      refine ⟨t2, by rw [t3]; exact jin_nI (by omega) (by decide), ?_⟩
      rw [ixn_nI (by omega), n2]
      refine useV0 (w_take g1 n3 n1 en (by omega)) ?_
      rintro h2 hI2 hle ⟨rf, en2⟩
      have S2 := S.take C hI1 pl rf en2 gn
      have kb2 : Cel D h2 (jfr h2 115 (ρ i)) qv := by
        have k142 : jkd h1 (jfr h1 56 sc) = 142 := hI1.ref (F := 56) (by decide +kernel) en.2.1.1
        have kk := kb.1.kd
        rw [rf.2.2.1]
        refine kb.of (rf.1 _ fun e => ?_) (fun h0 => rf.1 _ fun e => ?_)
        · rw [e] at kk; omega
        · have := (kb.1.2.2.2.2.resolve_left h0).1
          rw [e] at this; omega
      have nr2 := S2.2.1 i il
      have f3 := (nr2.2.2.2.2.2.2.1 o).1 nk
      obtain ⟨p1, p2, p3, p4, p5, p6⟩ := nr2.2.2.2.2.2.2.2.1 (Or.inl o)
      have l1 := (List.getElem?_eq_some_iff.mp hp).1
      refine ⟨nr2.1, fun _ => ⟨p1, jin_nI (n := 0) (by omega) (by omega), ?_⟩, fun y => absurd (by rw [f3.2.1, hk]; rfl) y⟩
      rw [show ixn (0 : Int32) = 0 from rfl, p6 0 p hp]
      refine ⟨(S2.2.1 p (by omega)).1, useAt (IH0 p rr h2 d n u0 true (by omega) (by omega) (hB p pm) hd ⟨S2.2.1, S2.2.2.1, en2, S2.2.2.2.2.1, C.2.2.2.2.1 rr rm⟩ (S2.2.2.2.2.2.2 hk) (by rw [tTree_in]; exact ht)) ?_ ?_⟩
      · rintro v h3 _ hI3 ⟨wv, w1, w2, w3, w4, w5⟩
        have vt : VT u wv := (snd_tree C.1 C.2.2.1 C.2.2.2.1 C.2.2.2.2.1 f true p rr u0 wv (by omega) (C.2.2.2.2.1 rr rm) ht w1).sub hu
        have S3 := S2.go C hI2 pl til.2.1 (by omega) w4 w5 fun e => absurd e gn
        have c5 := f3.2.2
        have kb3 : Cel D h3 (jfr h3 115 (ρ i)) qv := by
          rw [w4.2.2.2.2.1 115 _ (by decide) (by decide)]
          obtain ⟨s1, s2⟩ := w4.keep hI2 S2.2.2.1 (fun c hc => (S2.2.1.emW hI2 hc).1) en2.2.1.1 kb2.1 (EM.out5 S2.2.1 S2.2.2.1 hI2 C.2.1 il c5.1 (Or.inl (by omega)))
          exact kb2.of s1 s2
        have ez : eTree A E pv grp (f + 1) R i = ((gStep (ndS (nat_ A i)) (qc, qv) wv >>= fun q' => (grp.drop (k + 1)).foldlM (agF A E pv grp f (ndS (nat_ A i)) p) q') >>= agE (ndS (nat_ A i))) := by
          rw [ez]
          unfold agF
          rw [w1, ok_bind]
        have nr3 := S3.2.1 i il
        have g3 := (nr3.2.2.2.2.2.2.1 o).1 nk
        have next : ∀ (qc' : Nat) (qv' : Val) (h4 : JH), JInv D h4 → AgS D A E ρ sc pv grp R i p f h h4 → Cel D h4 (jfr h4 115 (ρ i)) qv' → qc' ≤ k + 1 → (qc' = 0 → qv' = vNull) → (qc' ≠ 0 → qv'.1 ≠ 0) → VT u qv' → gStep (ndS (nat_ A i)) (qc, qv) wv = .ok (qc', qv') → W_X28_at_193 D d (EQ D A E ρ sc pv i R h h (eTree A E pv grp (f + 1) R i)) (L_X28_at_13 D d (EQ D A E ρ sc pv i R h h (eTree A E pv grp (f + 1) R i)) (m' + 1)) (ρ i) sc (lN qc') (nI k) h4 := fun qc' qv' h4 hI4 S4 kb4 b1 b2 b3 b4 b5 => by
          have := w_agL C IH0 hR rk hi il hB o nk hk hp ht hu hsum gl hd m' (k + 1) qc' qv' h4 hI4 (by omega) S4 kb4 b1 b2 b3 b4 (by rw [ez, b5, ok_bind])
          unfold W_X28_at_193
          rw [nI_1]
          exact this
        have cpy : wv.1 ≠ 0 → gStep (ndS (nat_ A i)) (qc, qv) wv = .ok (qc + 1, wv) → W_X28_at_183 D d (EQ D A E ρ sc pv i R h h (eTree A E pv grp (f + 1) R i)) (L_X28_at_13 D d (EQ D A E ρ sc pv i R h h (eTree A E pv grp (f + 1) R i)) (m' + 1)) (ρ i) sc (lN (qc + 1)) (nI k) v h3 := fun wn e => by
          refine ⟨nr3.1, g3.2.2.1, JW.up (n := 9) (fun y => useR0 (k_cCopy (d := y) g3.2.2 w2 S3.2.2.1.tx) ?_) (by omega)⟩
          rintro v4 h4 hI4 hle4 ⟨rfl, c1, c2⟩
          have S4 := S3.best C hI3 hI4 il o nk pl c2 c1.1 hle4
          exact next (qc + 1) wv h4 hI4 S4 (by rw [c2.2.2.2.2.2.2.2 115 _ (by decide) (by decide)]; exact c1) (by omega) (fun z => by omega) (fun _ => wn) vt e
        refine ⟨w2.1.1, JW.up (n := 1) (fun y => useI0 (k_cEmpty (d := y) w2) ?_) (by omega)⟩
        rintro v4 h4 hI4 _ ⟨rfl, he4⟩
        have he4 := he4.symm
        subst he4
        by_cases wz : wv.1 = 0
        · rw [if_pos wz]
          exact ⟨fun z => absurd z (by decide), fun _ => next qc qv h3 hI3 S3 kb3 (by omega) q0 q1 qt (gs_nul wz)⟩
        rw [if_neg wz]
        refine ⟨fun _ => ⟨nr3.1, g3.1.1, w_eq' (w := "sum") g3.1 ⟨by decide, by decide +kernel⟩ (by omega) (fun es => ?_) fun es => ?_⟩, fun z => absurd rfl z⟩
        · rw [hsum es] at vt qt
          obtain ⟨x, rfl, xb⟩ := VT.num vt wz
          have w122 : ∀ (y : Int64), (gStep (ndS (nat_ A i)) (qc, qv) (vNum x) = (xNum y).map fun v => (qc + 1, v)) → W_X28_at_122 D d (EQ D A E ρ sc pv i R h h (eTree A E pv grp (f + 1) R i)) (L_X28_at_13 D d (EQ D A E ρ sc pv i R h h (eTree A E pv grp (f + 1) R i)) (m' + 1)) (ρ i) sc (lN (qc + 1)) (nI k) (jfr h3 115 (ρ i)) y h3 := fun y ey => by
            refine ⟨g3.2.2.1, JW.up (n := 8) (fun dd => useR (k_cNumber (d := dd) g3.2.2) ?_ ?_) (by omega)⟩
            · rintro v4 h4 hI4 hle4 ⟨rfl, c0, c1, c2⟩
              have S4 := S3.best C hI3 hI4 il o nk pl c2 c1.1 hle4
              rw [c0] at ey
              refine next (qc + 1) (vNum y) h4 hI4 S4 (by rw [c2.2.2.2.2.2.2.2 115 _ (by decide) (by decide)]; exact c1) (by omega) (fun z => by omega) (fun _ => (by decide : (20 : Nat) ≠ 0)) ?_ ey
              rw [hsum es]
              exact (VT.xnum c0).1
            · rintro y4 h4 hI4 hle4 ⟨c0, c1, c2⟩
              rw [c0] at ey
              exact endX fun _ _ => ⟨_, h3, by rw [ez, ey]; rfl, S3.1, c1, c2⟩
          rw [lN_1]
          refine ⟨fun z => ?_, fun z => ?_⟩
          · have qn : qc ≠ 0 := fun e => z ((cmp_eq _ _).mpr (by rw [e]; rfl))
            obtain ⟨y, rfl, yb⟩ := VT.num qt (q1 qn)
            refine ⟨g3.2.2.1, JW.up (n := 1) (fun dd => useL0 (k_cNum (d := dd) g3.2.2.1) ?_) (by omega)⟩
            rintro v5 h5 hI5 _ ⟨rfl, he5⟩
            have he5 := he5.symm
            subst he5
            refine JW.up (n := 1) (fun dd => useL0 (k_cNum (d := dd) w2.1.1) ?_) (by omega)
            rintro v6 h6 hI6 _ ⟨rfl, he6⟩
            have he6 := he6.symm
            subst he6
            rw [kb3.num, w2.num]
            exact w122 (y + x) (gs_sum wz es qn)
          · have qn : qc = 0 := by
              have := (cmp_eq _ _).mp z
              have := (lN_eq (b := 1) (by omega) (by omega)).mp this
              omega
            refine JW.up (n := 1) (fun dd => useL0 (k_cNum (d := dd) w2.1.1) ?_) (by omega)
            rintro v6 h6 hI6 _ ⟨rfl, he6⟩
            have he6 := he6.symm
            subst he6
            rw [w2.num]
            refine w122 x ?_
            rw [gs_new wz (fun _ => qn) (by rw [qn]; rfl)]
            have : xNum x = .ok (vNum x) := by
              unfold xNum
              rw [if_pos (by simpa using xb)]
            rw [this]; rfl
        · have ns : ndS (nat_ A i) = sStr "sum" → (qc, qv).1 = 0 := fun e => absurd e es
          rw [lN_1]
          refine ⟨fun z => ?_, fun z => ⟨g3.1.1, ?_⟩⟩
          · have qn : qc = 0 := by
              have := (cmp_eq _ _).mp z
              have := (lN_eq (b := 1) (by omega) (by omega)).mp this
              omega
            exact cpy wz (gs_new wz ns (by rw [qn]; rfl))
          · have qn : qc ≠ 0 := fun e => z ((cmp_eq _ _).mpr (by rw [e]; rfl))
            have et : wv.1 = qv.1 := by
              have := vt.2.resolve_left wz
              have := qt.2.resolve_left (q1 qn)
              omega
            have old : (ndS (nat_ A i) = sStr "min" → ¬ vCmp wv qv < 0) → (ndS (nat_ A i) = sStr "max" → ¬ 0 < vCmp wv qv) → W_X28_at_193 D d (EQ D A E ρ sc pv i R h h (eTree A E pv grp (f + 1) R i)) (L_X28_at_13 D d (EQ D A E ρ sc pv i R h h (eTree A E pv grp (f + 1) R i)) (m' + 1)) (ρ i) sc (lN (qc + 1)) (nI k) h3 := fun e1 e2 =>
              next (qc + 1) qv h3 hI3 S3 kb3 (by omega) (fun z => by omega) (fun _ => q1 qn) qt (gs_old wz ns (by
                show (qc == 0 || ((ndS (nat_ A i) == sStr "min" && decide (vCmp wv qv < 0)) || (ndS (nat_ A i) == sStr "max" && decide (0 < vCmp wv qv)))) = false
                simp only [Bool.or_eq_false_iff, Bool.and_eq_false_iff, beq_eq_false_iff_ne, decide_eq_false_iff_not]
                exact ⟨qn, Decidable.or_iff_not_imp_left.mpr fun a => e1 (Decidable.not_not.mp a), Decidable.or_iff_not_imp_left.mpr fun a => e2 (Decidable.not_not.mp a)⟩))
            have new : (ndS (nat_ A i) = sStr "min" ∧ vCmp wv qv < 0) ∨ (ndS (nat_ A i) = sStr "max" ∧ 0 < vCmp wv qv) → W_X28_at_183 D d (EQ D A E ρ sc pv i R h h (eTree A E pv grp (f + 1) R i)) (L_X28_at_13 D d (EQ D A E ρ sc pv i R h h (eTree A E pv grp (f + 1) R i)) (m' + 1)) (ρ i) sc (lN (qc + 1)) (nI k) v h3 := fun e =>
              cpy wz (gs_new wz ns (by
                show (qc == 0 || ((ndS (nat_ A i) == sStr "min" && decide (vCmp wv qv < 0)) || (ndS (nat_ A i) == sStr "max" && decide (0 < vCmp wv qv)))) = true
                simp only [Bool.or_eq_true, Bool.and_eq_true, beq_iff_eq, decide_eq_true_eq]
                exact Or.inr e))
            have w159 : (ndS (nat_ A i) = sStr "min" → ¬ vCmp wv qv < 0) → W_X28_at_159 D d (EQ D A E ρ sc pv i R h h (eTree A E pv grp (f + 1) R i)) (L_X28_at_13 D d (EQ D A E ρ sc pv i R h h (eTree A E pv grp (f + 1) R i)) (m' + 1)) (ρ i) sc (lN (qc + 1)) (nI k) v h3 := fun e1 => by
              refine ⟨nr3.1, g3.1.1, w_eq' (w := "max") g3.1 ⟨by decide, by decide +kernel⟩ (by omega) (fun em => ?_) fun em => old e1 fun e => absurd e em⟩
              refine ⟨w2.1.1, JW.up (n := 2) (fun y => useI0 (k_order (d := y) w2 kb3 wz et) ?_) (by omega)⟩
              rintro v5 h6 hI6 _ ⟨sx, he6⟩
              have he6 := he6.symm
              subst he6
              exact ⟨fun y => old e1 fun _ => by have := sx.le.mp y; omega, fun y => new (Or.inr ⟨em, Int.not_le.mp fun q => y (sx.le.mpr q)⟩)⟩
            refine w_eq' (w := "min") g3.1 ⟨by decide, by decide +kernel⟩ (by omega) (fun em => ?_) fun em => w159 fun e => absurd e em
            refine JW.up (n := 2) (fun y => useI0 (k_order (d := y) w2 kb3 wz et) ?_) (by omega)
            rintro v5 h6 hI6 _ ⟨sx, he6⟩
            have he6 := he6.symm
            subst he6
            exact ⟨fun y => new (Or.inl ⟨em, sx.1.mp y⟩), fun y => w159 fun _ q => y (sx.1.mpr q)⟩
      · rintro y h3 _ hI3 ⟨c, hm, c1, c2, c3⟩
        have S3 : EvF D sc (EM h A ρ (ndL (nat_ A i)) (i + 1)) h hm := by
          have b : EvF D sc (EM h2 A ρ (ndL (nat_ A i)) (i + 1)) h2 hm := c2.mono (fun q hq => hq.mono til.2.1 (by omega)) fun c hc hn => c2.keep hI2 S2.2.2.1 (fun c hc => (S2.2.1.emW hI2 hc).1) en2.2.1.1 (S2.2.1.emW hI2 hc).1 hn
          rw [S2.1.em'] at b
          exact S2.1.tr b
        refine endX fun _ _ => ⟨c, hm, ?_, S3, c3⟩
        rw [ez]
        unfold agF
        rw [c1]; rfl
theorem ev_agg (C : EvC A E Ec ρ pv grp) (IH0 : EVX D A E (Ec0 Ec) ρ sc pv grp (GA D E sc grp) f) (hi : i < f + 1) (il : i < A.length) (hB : HB A (n + 1) i) (o : ndO (nat_ A i) = 3) (hg : tGather (ndS (nat_ A i)) = true) (S : EvI D A E Ec ρ sc pv (GF D E sc grp) R h) (pl : PlT A E h ρ (f + 1) i) (ht : tTree A Ec (f + 1) wi i = .ok t) (hd : 2 * n + 21 ≤ d) :
    cX28_at D d (ρ i) sc h (EQ D A E ρ sc pv i R h h (eTree A E pv grp (f + 1) R i)) := by
  obtain ⟨e, rfl, he⟩ := dsucc hd
  have nk : nkd (nat_ A i) = 22 := by
    unfold nkd
    rw [o]
    exact if_pos (Or.inr hg)
  obtain ⟨ts, tl, tg, t3⟩ : ∃ ts, ts.length = (ndP (nat_ A i)).length ∧ (∀ (k p : Nat), (ndP (nat_ A i))[k]? = some p → ∃ u, ts[k]? = some u ∧ tTree A Ec f true p = .ok u) ∧ tNode Ec wi (nat_ A i) ts = .ok t := by
    rw [tTree_eq] at ht
    have : (wi || (ndO (nat_ A i) == 3 && tGather (ndS (nat_ A i)))) = true := by rw [hg, o]; simp
    rw [this] at ht
    obtain ⟨ts, hm, ht⟩ := bnd ht
    exact ⟨ts, mapM_len hm, mapM_get hm, ht⟩
  unfold tNode at t3
  rw [o] at t3
  have t3 : tFun Ec wi (ndS (nat_ A i)) (ndK (nat_ A i) == 1) ts = .ok t := t3
  have nr := S.1 i il
  have f3 := (nr.2.2.2.2.2.2.1 o).1 nk
  have gl : grp.length ≤ 10000 := by
    by_cases gn : grp = []
    · rw [gn]; decide
    · obtain ⟨st, _, _, t4, _⟩ := S.2.2.2.1.1.2.2 gn
      omega
  have e3 := eT_3 (E := E) (pv := pv) (grp := grp) (f := f) (R := R) o
  rw [if_pos hg] at e3
  refine JW.inv fun hI => t_X28_at ⟨nr.1, f3.2.2.1, JW.up (n := 1) (fun y => useR0 (k_cNone (d := y) f3.2.2) ?_) (by omega)⟩
  rintro v1 h1 hI1 hle ⟨rfl, c1, c2⟩
  have c1 : Cel D h1 (jfr h1 115 (ρ i)) vNull := by rw [c2.2.2.2.2.2.2.2 115 _ (by decide) (by decide)]; exact c1
  have sh := (C.1 i il).2.2.1
  obtain ⟨k1, k2⟩ : (ndP (nat_ A i)).length ≤ 8 ∧ (ndK (nat_ A i) = 0 ∨ (ndK (nat_ A i) = 1 ∧ ndP (nat_ A i) = [])) := by
    rcases sh with h | h | h | h | h | h | h | h | h | h | h | h | h
    all_goals first | exact h.2 | (exfalso; have := h.1; omega)
  have hR : grp = [] ∨ grp.head? = some R := S.2.2.2.1.2
  have hSt : ∀ p, (ndK (nat_ A i) = 0 → p < A.length) → (ndK (nat_ A i) = 0 → PlT A E h ρ f p) → AgS D A E ρ sc pv grp R i p f h h1 := fun p pl' plp => by
    have S0 : AgS D A E ρ sc pv grp R i p f h h := ⟨EvF.rf, S.1, S.2.1, ⟨R, S.2.2.1⟩, S.2.2.2.1.1, fun _ => S.2.2.1, plp⟩
    exact S0.best C hI hI1 il o nk pl' c2 (by rw [← c2.2.2.2.2.2.2.2 115 _ (by decide) (by decide)]; exact c1.1) hle
  rw [tFun_agg (Or.inr hg) (fun z => by
    have z : ndK (nat_ A i) = 1 := by simpa using z
    rcases k2 with y | y
    · omega
    · rw [y.2] at tl; exact List.length_eq_zero_iff.mp tl)] at t3
  split at t3
  · rename_i hkn
    unfold knA at hkn
    rcases k2 with hk | ⟨hk, hp⟩
    · have n1 : ¬ (ndK (nat_ A i) == 1) = true := by rw [hk]; decide
      rw [if_neg n1] at e3
      rw [if_neg n1] at hkn
      obtain ⟨u, rfl⟩ := len1 hkn
      have l1 : (ndP (nat_ A i)).length = 1 := by rw [← tl]; rfl
      obtain ⟨p, hp⟩ : ∃ p, (ndP (nat_ A i))[0]? = some p := ⟨_, List.getElem?_eq_getElem (by omega)⟩
      have pm := List.mem_of_getElem? hp
      have til := (Til.lt (C.1 i il).2.1).2 p pm
      obtain ⟨u0, v1, v2⟩ := tg 0 p hp
      rw [List.getElem?_cons_zero] at v1
      cases v1
      have ep : (ndP (nat_ A i)).getD 0 0 = p := by rw [List.getD_eq_getElem?_getD, hp]; rfl
      rw [ep] at e3
      have hs : u = 0 ∨ u = (if ndS (nat_ A i) = sStr "sum" then 20 else u) := by
        by_cases c2 : ndS (nat_ A i) = sStr "sum"
        · rw [if_pos c2]
          unfold agS at t3
          split at t3
          · rw [if_neg (nmNe c2 "count" (by decide +kernel))] at t3
            obtain ⟨x, f1, t3⟩ := bnd t3
            cases x
            exact fits_sub f1 (by decide)
          · cases t3
        · rw [if_neg c2]; exact Or.inr rfl
      exact ⟨grp.length + 1, w_agL C IH0 hR S.2.2.2.2 hi il hB o nk hk hp v2 hs (fun e => if_pos e) gl (by omega) grp.length 0 0 vNull h1 hI1 (by omega) (hSt p (fun _ => by omega) fun _ => pl.2 p pm) c1 (Nat.le_refl _) (fun _ => rfl) (fun z => absurd rfl z) (VT.null _) (by rw [e3, List.drop_zero]; rfl)⟩
    · have n1 : (ndK (nat_ A i) == 1) = true := by rw [hk]; rfl
      rw [if_pos n1] at e3 hkn
      exact ⟨grp.length + 1, w_agStarL (p := 0) C hR S.2.2.2.2 il o hk (by simpa using hkn) gl e3 (by omega) grp.length 0 h1 hI1 (by omega) (hSt 0 (fun z => by omega) fun z => by omega)⟩
  · cases t3
end
