/-! the component: CASE -/
section
variable {D : JD} {h h' h'' hm h0 h1 h2 h3 hb : JH} {ρ : Nat → Nat} {A : List Nod} {E Ec : TEnv} {d sc r x i n f c q lo hi t : Nat} {M : Nat → Prop} {pv : List Val} {grp : List TRow} {R : TRow} {G : TRow → JH → Prop} {wi : Bool} {z : Ex Val} {w : Val}
theorem fin_copy {o : Nat} (C : EvC A E Ec ρ pv grp) (S : EvS D A E Ec ρ sc pv G R i h h1) (il : i < A.length) (o0 : ndO (nat_ A i) ≠ 0) (hc : Cel D h1 o w) (hz : z = .ok w) (hd : 9 ≤ d) : cX14_copy D d (jfr h1 108 (ρ i)) o h1 (pR D h1 8 (fun v h2 => EQ D A E ρ sc pv i R hb h z (.inl (some (vR 8 v))) h2) (jth (EQ D A E ρ sc pv i R hb h z))) := by
  refine JW.inv fun hI => JW.up (n := 9) (fun y => useR0 (k_cCopy (d := y) (S.2.1 i il).2.2.1 hc S.2.2.1.tx) ?_) hd
  rintro v h2 hI2 hle ⟨rfl, c1, c2⟩
  exact fin_val C S hI hI2 il o0 hle c1 c2 hz
theorem ca_odd : ∀ n, n < 41 → ((nI n - nI n / 2 * 2 = 1) ↔ n % 2 = 1) := by decide +kernel
theorem drop_two {α : Type} {l : List α} {k : Nat} {a b : α} (ha : l[k]? = some a) (hb : l[k + 1]? = some b) : l.drop k = a :: b :: l.drop (k + 2) := by
  obtain ⟨h1, e1⟩ := List.getElem?_eq_some_iff.mp ha
  obtain ⟨h2, e2⟩ := List.getElem?_eq_some_iff.mp hb
  rw [List.drop_eq_getElem_cons h1, List.drop_eq_getElem_cons h2, e1, e2]
theorem csL_cond : ∀ (ts : List Nat) (acc t : Nat), csL ts acc = .ok t → ∀ (j u : Nat), ts[j]? = some u → j % 2 = 0 → j + 1 < ts.length → u = 0 ∨ u = 16
  | [], _, _, _, j, u, h, _, _ => by simp at h
  | [b], _, _, _, j, u, h, _, l => by simp at l
  | a :: b :: l, acc, t, e, j, u, h, hj, hl => by
    have e : (tFits a 16 >>= fun _ => tSame acc b >>= fun x => csL l x) = .ok t := e
    obtain ⟨u1, f1, e⟩ := bnd e
    obtain ⟨x, f2, e⟩ := bnd e
    match j, h with
    | 0, h =>
      rw [List.getElem?_cons_zero] at h
      cases h
      cases u1
      exact fits_sub f1 (by decide)
    | 1, h => omega
    | j + 2, h =>
      rw [List.getElem?_cons_succ, List.getElem?_cons_succ] at h
      exact csL_cond l x t e j u h (by omega) (by simp only [List.length_cons] at hl; omega)
/-- CASE: none was true -/
def caE (A : List Nod) (E : TEnv) (pv : List Val) (grp : List TRow) (f : Nat) (R : TRow) (i : Nat) (r : Option Val) : Ex Val := match r with
  | some v => .ok v
  | none => if (ndK (nat_ A i) == 1) = true then evK A E pv grp f R i ((ndP (nat_ A i)).length - ndK (nat_ A i)) else .ok vNull
theorem w_eCaseL {wn : Nat} {ts : List Nat} (C : EvC A E Ec ρ pv grp) (hG : EvG D A ρ sc G) (IH : EVX D A E Ec ρ sc pv grp G f) (hi : i < f + 1) (il : i < A.length) (hB : HB A (n + 1) i) (o : ndO (nat_ A i) = 4) (S : EvI D A E Ec ρ sc pv G R h) (hI : JInv D h) (hd : 2 * n + 20 ≤ d) (k1 : ndK (nat_ A i) ≤ 1) (wl : wn ≤ 19) (w3 : (ndP (nat_ A i)).length = 2 * wn + ndK (nat_ A i))
    (tg : ∀ (k p : Nat), (ndP (nat_ A i))[k]? = some p → ∃ u, ts[k]? = some u ∧ tTree A Ec f wi p = .ok u) (tc : ∀ (j u : Nat), ts[j]? = some u → j % 2 = 0 → j + 1 < (ndP (nat_ A i)).length → u = 0 ∨ u = 16) :
    ∀ (m k : Nat) (h1 : JH), JInv D h1 → k + m = wn → EvS D A E Ec ρ sc pv G R i h h1 → (∀ p ∈ ndP (nat_ A i), PlT A E h1 ρ f p) → eTree A E pv grp (f + 1) R i = (caG A E pv grp f R (((ndP (nat_ A i)).take (2 * wn)).drop (2 * k)) >>= caE A E pv grp f R i) →
    L_X27_at_2 D d (EQ D A E ρ sc pv i R h h (eTree A E pv grp (f + 1) R i)) (m + 1) (ρ i) sc (nI (2 * k)) h1
  | m, k, h1, hI1, hkm, S1, pl, ez => by
    have nr := S1.2.1 i il
    have own := nr.2.2.1.1
    have f4 := nr.2.2.2.2.2.2.2.1 (by omega)
    have o0 : ndO (nat_ A i) ≠ 0 := by omega
    refine ⟨nr.1, fun y => ?_, fun y => ?_⟩
    · rw [f4.2.2.1, nI_1] at y
      have y := (nI_leI (by omega) (by omega)).mp y
      have e0 : eTree A E pv grp (f + 1) R i = caE A E pv grp f R i none := by
        rw [ez, List.drop_eq_nil_of_le (by rw [List.length_take]; omega)]; rfl
      rw [f4.2.2.1]
      refine ⟨fun z => ⟨own, fin_none C S1 il o0 ?_ (by omega)⟩, fun z => ?_⟩
      · have : ndK (nat_ A i) = 0 := by
          have nq : ¬ (ndP (nat_ A i)).length % 2 = 1 := fun q => z ((ca_odd _ (by omega)).mpr q)
          omega
        rw [e0]
        unfold caE
        rw [this]; rfl
      · have z := (ca_odd _ (by omega)).mp z
        have k1' : ndK (nat_ A i) = 1 := by omega
        obtain ⟨p, hk⟩ : ∃ p, (ndP (nat_ A i))[2 * wn]? = some p := ⟨_, List.getElem?_eq_getElem (by omega)⟩
        obtain ⟨g1, g2, g3, g4, g5, g6⟩ := S1.part C il (by omega) hk
        obtain ⟨v, v1, v2⟩ := tg _ p hk
        have pm := List.mem_of_getElem? hk
        have el : nI (ndP (nat_ A i)).length - 1 = nI (2 * wn) := by rw [w3, k1', ← nI_1, Int32.add_sub_cancel]
        rw [el]
        refine ⟨g1, g2, ?_⟩
        rw [g3]
        have e1 : eTree A E pv grp (f + 1) R i = eTree A E pv grp f R p := by
          rw [e0]
          unfold caE evK
          rw [w3, k1', List.getD_eq_getElem?_getD, show 2 * wn + 1 - 1 = 2 * wn from rfl, hk]; rfl
        refine ⟨g4, useAt (w_evNext C hG IH hi il hB pm S hI S1 (pl p pm) v2 (by omega)) ?_ ?_⟩
        · rintro vb h2 _ hI2 ⟨yv, b1, b2, b3, b4, S2, b6, b7, -⟩
          rw [show jfr h1 108 (ρ i) = jfr h2 108 (ρ i) from (S1.e8 _).trans (S2.e8 _).symm]
          exact ⟨(S2.2.1 i il).2.2.1.1, fin_copy C S2 il o0 b2 (e1.trans b1) (by omega)⟩
        · rintro y h2 _ hI2 ⟨c, hm, c1, c2, c3⟩
          exact endX fun _ _ => ⟨c, hm, e1.trans c1, c2, c3⟩
    · rw [f4.2.2.1, nI_1] at y
      have kl : 2 * k + 1 < (ndP (nat_ A i)).length := Nat.lt_of_not_le fun z => y ((nI_leI (by omega) (by omega)).mpr z)
      have kw : k < wn := by omega
      obtain ⟨m', rfl⟩ : ∃ m', m = m' + 1 := ⟨m - 1, by omega⟩
      obtain ⟨pa, ha⟩ : ∃ p, (ndP (nat_ A i))[2 * k]? = some p := ⟨_, List.getElem?_eq_getElem (by omega)⟩
      obtain ⟨pb, hb⟩ : ∃ p, (ndP (nat_ A i))[2 * k + 1]? = some p := ⟨_, List.getElem?_eq_getElem (by omega)⟩
      have ed : ((ndP (nat_ A i)).take (2 * wn)).drop (2 * k) = pa :: pb :: ((ndP (nat_ A i)).take (2 * wn)).drop (2 * (k + 1)) :=
        drop_two (by rw [List.getElem?_take, if_pos (by omega)]; exact ha) (by rw [List.getElem?_take, if_pos (by omega)]; exact hb)
      rw [ed] at ez
      have ez : eTree A E pv grp (f + 1) R i = ((eTree A E pv grp f R pa >>= fun v => if vTrue v = true then (eTree A E pv grp f R pb).map some else caG A E pv grp f R (((ndP (nat_ A i)).take (2 * wn)).drop (2 * (k + 1)))) >>= caE A E pv grp f R i) := ez
      obtain ⟨g1, g2, g3, g4, g5, g6⟩ := S1.part C il (by omega) ha
      obtain ⟨v, v1, v2⟩ := tg _ pa ha
      obtain ⟨u, u1, u2⟩ := tg _ pb hb
      have pma := List.mem_of_getElem? ha
      have pmb := List.mem_of_getElem? hb
      refine ⟨g1, g2, ?_⟩
      rw [g3]
      refine ⟨g4, useAt (w_evNext C hG IH hi il hB pma S hI S1 (pl pa pma) v2 (by omega)) ?_ ?_⟩
      · rintro va h2 _ hI2 ⟨x, a1, a2, a3, a4, S2, a6, a7, -⟩
        have vt := a3.sub (tc (2 * k) v v1 (by omega) kl)
        have pl2 : ∀ p ∈ ndP (nat_ A i), PlT A E h2 ρ f p := fun p hp => a7 p (by have := (Til.lt (C.1 i il).2.1).2 p hp; omega) (pl p hp)
        have step : eTree A E pv grp (f + 1) R i = ((if vTrue x = true then (eTree A E pv grp f R pb).map some else caG A E pv grp f R (((ndP (nat_ A i)).take (2 * wn)).drop (2 * (k + 1)))) >>= caE A E pv grp f R i) := by rw [ez, a1, ok_bind]
        refine ⟨a2.1.1, JW.up (n := 1) (fun y => useI0 (k_cTrue (d := y) a2 vt.2) ?_) (by omega)⟩
        rintro v3 h3 hI3 _ ⟨rfl, he3⟩
        have he3 := he3.symm
        subst he3
        by_cases tx : vTrue x = true
        · rw [if_pos tx] at step ⊢
          refine ⟨fun z => absurd z (by decide), fun _ => ⟨nr.1, ?_⟩⟩
          obtain ⟨q1, q2, q3, q4, q5, q6⟩ := S2.part C il (by omega) hb
          rw [nI_1]
          refine ⟨q1, q2, ?_⟩
          rw [q3]
          refine ⟨q4, useAt (w_evNext C hG IH hi il hB pmb S hI S2 (pl2 pb pmb) u2 (by omega)) ?_ ?_⟩
          · rintro vb h4 _ hI4 ⟨yv, b1, b2, b3, b4, S4, b6, b7, -⟩
            rw [show jfr h2 108 (ρ i) = jfr h4 108 (ρ i) from (S2.e8 _).trans (S4.e8 _).symm]
            exact ⟨(S4.2.1 i il).2.2.1.1, fin_copy C S4 il o0 b2 (by rw [step, b1]; rfl) (by omega)⟩
          · rintro y h4 _ hI4 ⟨c, hm, c1, c2, c3⟩
            exact endX fun _ _ => ⟨c, hm, by rw [step, c1]; rfl, c2, c3⟩
        · rw [if_neg tx] at step ⊢
          refine ⟨fun _ => ?_, fun z => absurd rfl z⟩
          have := w_eCaseL C hG IH hi il hB o S hI hd k1 wl w3 tg tc m' (k + 1) h2 hI2 (by omega) S2 pl2 step
          rw [show nI (2 * k) + 2 = nI (2 * (k + 1)) from by rw [show 2 * (k + 1) = 2 * k + 2 from rfl, ← nI_add]; rfl]
          exact this
      · rintro y h2 _ hI2 ⟨c, hm, c1, c2, c3⟩
        exact endX fun _ _ => ⟨c, hm, by rw [ez, c1]; rfl, c2, c3⟩
theorem ev_case (C : EvC A E Ec ρ pv grp) (hG : EvG D A ρ sc G) (IH : EVX D A E Ec ρ sc pv grp G f) (hi : i < f + 1) (il : i < A.length) (hB : HB A (n + 1) i) (o : ndO (nat_ A i) = 4) (S : EvI D A E Ec ρ sc pv G R h) (pl : PlT A E h ρ (f + 1) i) (ht : tTree A Ec (f + 1) wi i = .ok t) (hd : 2 * n + 21 ≤ d) :
    cX27_at D d (ρ i) sc h (EQ D A E ρ sc pv i R h h (eTree A E pv grp (f + 1) R i)) := by
  obtain ⟨e, rfl, he⟩ := dsucc hd
  obtain ⟨ts, tl, tg, t3⟩ := part_ty (by omega) ht
  obtain ⟨k1, wn, w1, w2, w3⟩ : ndK (nat_ A i) ≤ 1 ∧ ∃ w, 1 ≤ w ∧ w ≤ 19 ∧ (ndP (nat_ A i)).length = 2 * w + ndK (nat_ A i) := by
    rcases (C.1 i il).2.2.1 with h | h | h | h | h | h | h | h | h | h | h | h | h
    all_goals first | exact h.2 | (exfalso; have := h.1; omega)
  unfold tNode at t3
  rw [o] at t3
  have t3 : tCase (ndK (nat_ A i)) ts = .ok t := t3
  rw [tCase_eq k1 (by rw [tl]; exact w3)] at t3
  have tc := csL_cond ts 0 t t3
  rw [tl] at tc
  refine JW.inv fun hI => t_X27_at ⟨wn + 1, w_eCaseL C hG IH hi il hB o S hI (by omega) k1 w2 w3 tg tc wn 0 h hI (by omega) (EvS.rf S) pl.2 ?_⟩
  have el : (ndP (nat_ A i)).length - ndK (nat_ A i) = 2 * wn := by omega
  rw [eT_4 o]
  show (caG A E pv grp f R ((ndP (nat_ A i)).take ((ndP (nat_ A i)).length - ndK (nat_ A i))) >>= caE A E pv grp f R i) = _
  rw [el]; rfl
end
