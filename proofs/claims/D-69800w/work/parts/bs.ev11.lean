/-! the component: lists of parts; IN -/
section
variable {D : JD} {h h' h'' hm h0 h1 h2 h3 hb : JH} {ρ : Nat → Nat} {A : List Nod} {E Ec : TEnv} {d sc r x i n f c q lo hi t : Nat} {M : Nat → Prop} {pv : List Val} {grp : List TRow} {R : TRow} {G : TRow → JH → Prop} {wi : Bool} {z : Ex Val} {w : Val}
/-- the types of the parts -/
theorem part_ty (o : ndO (nat_ A i) ≠ 3) (ht : tTree A Ec (f + 1) wi i = .ok t) : ∃ ts, ts.length = (ndP (nat_ A i)).length ∧ (∀ (k p : Nat), (ndP (nat_ A i))[k]? = some p → ∃ u, ts[k]? = some u ∧ tTree A Ec f wi p = .ok u) ∧ tNode Ec wi (nat_ A i) ts = .ok t := by
  rw [tTree_eq] at ht
  have : (wi || (ndO (nat_ A i) == 3 && tGather (ndS (nat_ A i)))) = wi := by
    rw [show (ndO (nat_ A i) == 3) = false by simpa using o]; simp
  rw [this] at ht
  obtain ⟨ts, hm, ht⟩ := bnd ht
  exact ⟨ts, mapM_len hm, mapM_get hm, ht⟩
/-- where the part k stands -/
theorem EvS.part {k p : Nat} (S : EvS D A E Ec ρ sc pv G R i h h1) (C : EvC A E Ec ρ pv grp) (il : i < A.length) (o : ndO (nat_ A i) = 3 ∨ ndO (nat_ A i) = 4 ∨ ndO (nat_ A i) = 5 ∨ ndO (nat_ A i) = 7) (hk : (ndP (nat_ A i))[k]? = some p) : jfr h1 111 (ρ i) ≠ 0 ∧ jin (nI k) (jln h1 (jfr h1 111 (ρ i))) ∧ jar h1 (jfr h1 111 (ρ i)) (ixn (nI k)) = ρ p ∧ ρ p ≠ 0 ∧ p < i ∧ p < A.length := by
  have f4 := (S.2.1 i il).2.2.2.2.2.2.2.1 o
  obtain ⟨p1, p2, p3, p4, p5, p6⟩ := f4
  have kl := (List.getElem?_eq_some_iff.mp hk).1
  have til := (Til.lt (C.1 i il).2.1).2 p (List.mem_of_getElem? hk)
  refine ⟨p1, jin_nI (by omega) (by omega), ?_, (S.2.1 p (by omega)).1, by omega, by omega⟩
  rw [ixn_nI (by omega)]
  exact p6 k p hk
theorem in_true {x : Val} : ∀ (l : List Nat) (b : Bool), l.foldlM (inF A E pv grp f R x) (true, b) = .ok (true, b)
  | [], _ => rfl
  | p :: l, b => by
    rw [List.foldlM_cons]
    show (Except.ok (true, b) >>= fun s => l.foldlM (inF A E pv grp f R x) s) = _
    exact in_true l b
theorem told0 {x y : Val} (hx : ¬ (x.1 = 0 ∨ y.1 = 0)) : vTold 0 x y = vBool (vCmp x y == 0) := told_ok (k := 0) hx
theorem toldN {k : Nat} {x y : Val} (hx : x.1 = 0 ∨ y.1 = 0) : vTold k x y = vNull := by
  unfold vTold
  rw [if_pos (by simpa using hx)]
/-- the end of IN -/
def amE (q : Bool × Bool) : Ex Val := .ok (if q.1 = true then vBool true else if q.2 = true then vNull else vBool false)
theorem w_eAmongL {va p0 u : Nat} {x : Val} {ts : List Nat} (C : EvC A E Ec ρ pv grp) (hG : EvG D A ρ sc G) (IH : EVX D A E Ec ρ sc pv grp G f) (hi : i < f + 1) (il : i < A.length) (hB : HB A (n + 1) i) (o : ndO (nat_ A i) = 5) (S : EvI D A E Ec ρ sc pv G R h) (hI : JInv D h) (hd : 2 * n + 20 ≤ d) (h0 : (ndP (nat_ A i))[0]? = some p0) (hx : VT u x)
    (tg : ∀ (k p : Nat), (ndP (nat_ A i))[k]? = some p → ∃ u, ts[k]? = some u ∧ tTree A Ec f wi p = .ok u) (ts1 : ∀ v ∈ ts, v = 0 ∨ v = u) :
    ∀ (m k : Nat) (b : Bool) (h1 : JH), JInv D h1 → k + m = (ndP (nat_ A i)).length → 1 ≤ k → EvS D A E Ec ρ sc pv G R i h h1 → Cel D h1 va x → RsC h1 ρ p0 va → (∀ p ∈ ndP (nat_ A i), PlT A E h1 ρ f p) → eTree A E pv grp (f + 1) R i = (((ndP (nat_ A i)).drop k).foldlM (inF A E pv grp f R x) (false, b) >>= amE) →
    L_X35_among_16 D d (EQ D A E ρ sc pv i R h h (eTree A E pv grp (f + 1) R i)) (m + 1) (ρ i) sc va (if b = true then 1 else 0) (nI k) h1
  | m, k, b, h1, hI1, hkm, k1, S1, ka, rs, pl, ez => by
    have nr := S1.2.1 i il
    have own := nr.2.2.1.1
    have f4 := nr.2.2.2.2.2.2.2.1 (by omega)
    have l9 : (ndP (nat_ A i)).length ≤ 40 := by
      have := f4.2.2.2.1
      have := f4.2.2.2.2.1
      omega
    refine ⟨nr.1, fun y => ?_, fun y => ?_⟩
    · rw [f4.2.2.1] at y
      have y := (nI_leI (by omega) (by omega)).mp y
      have e0 : eTree A E pv grp (f + 1) R i = amE (false, b) := by
        rw [ez, List.drop_eq_nil_of_le (by omega)]; rfl
      cases b with
      | false => exact ⟨fun _ => ⟨own, fin_truth C S1 il (by omega) (by rw [e0]; rfl) (by omega)⟩, fun z => absurd rfl z⟩
      | true => exact ⟨fun z => absurd z (by decide), fun _ => ⟨own, fin_none C S1 il (by omega) (by rw [e0]; rfl) (by omega)⟩⟩
    · rw [f4.2.2.1] at y
      have kl : k < (ndP (nat_ A i)).length := Nat.lt_of_not_le fun z => y ((nI_leI (by omega) (by omega)).mpr z)
      have hk : (ndP (nat_ A i))[k]? = some (ndP (nat_ A i))[k] := List.getElem?_eq_getElem kl
      generalize hp : (ndP (nat_ A i))[k] = p at hk
      obtain ⟨m', rfl⟩ : ∃ m', m = m' + 1 := ⟨m - 1, by omega⟩
      obtain ⟨g1, g2, g3, g4, g5, g6⟩ := S1.part C il (by omega) hk
      obtain ⟨v, v1, v2⟩ := tg k p hk
      have pm := List.mem_of_getElem? hk
      have ord := Til.ord (C.1 i il).2.1 0 k p0 p (by omega) h0 hk
      have p0l := (Til.lt (C.1 i il).2.1).2 p0 (List.mem_of_getElem? h0)
      rw [List.drop_eq_getElem_cons kl, hp, List.foldlM_cons] at ez
      refine ⟨g1, g2, ?_⟩
      rw [g3]
      refine ⟨g4, useAt (w_evNext C hG IH hi il hB pm S hI S1 (pl p pm) v2 (by omega)) ?_ ?_⟩
      · rintro vb h2 _ hI2 ⟨yv, b1, b2, b3, b4, S2, b6, b7, -⟩
        have ka2 := rs.keep S1.2 hI1 C.2.1 (by omega) ka b6 (Or.inr ord)
        have own2 := (S2.2.1 i il).2.2.1.1
        have pl2 : ∀ p ∈ ndP (nat_ A i), PlT A E h2 ρ f p := fun p hp => b7 p (by have := (Til.lt (C.1 i il).2.1).2 p hp; omega) (pl p hp)
        have ty : yv.1 = 0 ∨ yv.1 = u := by
          have := (b3.sub (ts1 v (List.mem_of_getElem? v1))).2
          exact this
        have step : eTree A E pv grp (f + 1) R i = (((ndP (nat_ A i)).drop (k + 1)).foldlM (inF A E pv grp f R x) (vTrue (vTold 0 x yv), b || (vTold 0 x yv).1 == 0) >>= amE) := by
          rw [ez]
          unfold inF
          rw [if_neg (show ¬ false = true by decide), b1]
          rfl
        have next : ∀ b', vTrue (vTold 0 x yv) = false → (b || (vTold 0 x yv).1 == 0) = b' → W_X35_among_76 D d (EQ D A E ρ sc pv i R h h (eTree A E pv grp (f + 1) R i)) (L_X35_among_16 D d (EQ D A E ρ sc pv i R h h (eTree A E pv grp (f + 1) R i)) (m' + 1)) (ρ i) sc va (if b' = true then 1 else 0) (nI k) h2 := fun b' e1 e2 => by
          rw [e1, e2] at step
          have := w_eAmongL C hG IH hi il hB o S hI hd h0 hx tg ts1 m' (k + 1) b' h2 hI2 (by omega) (by omega) S2 ka2.1 ka2.2 pl2 step
          unfold W_X35_among_76
          rw [nI_1]
          exact this
        have nul : x.1 = 0 ∨ yv.1 = 0 → W_X35_among_53 D d (EQ D A E ρ sc pv i R h h (eTree A E pv grp (f + 1) R i)) (L_X35_among_16 D d (EQ D A E ρ sc pv i R h h (eTree A E pv grp (f + 1) R i)) (m' + 1)) (ρ i) sc va (nI k) h2 := fun y => by
          have e := toldN (k := 0) y
          exact next true (by rw [e]; rfl) (by rw [e]; simp)
        refine ⟨ka2.1.1.1, JW.up (n := 1) (fun y => useI0 (k_cEmpty (d := y) ka2.1) ?_) (by omega)⟩
        rintro v3 h3 hI3 _ ⟨rfl, he3⟩
        have he3 := he3.symm
        subst he3
        by_cases xz : x.1 = 0
        · rw [if_pos xz]
          exact ⟨fun _ => nul (Or.inl xz), fun y => absurd y (by decide)⟩
        rw [if_neg xz]
        refine ⟨fun y => absurd rfl y, fun _ => ⟨b2.1.1, JW.up (n := 1) (fun y => useI0 (k_cEmpty (d := y) b2) ?_) (by omega)⟩⟩
        rintro v4 h4 hI4 _ ⟨rfl, he4⟩
        have he4 := he4.symm
        subst he4
        by_cases yz : yv.1 = 0
        · rw [if_pos yz]
          exact ⟨fun y => absurd y (by decide), fun _ => nul (Or.inr yz)⟩
        rw [if_neg yz]
        have e := told0 (x := x) (y := yv) (by omega)
        have et : x.1 = yv.1 := by
          have := hx.2
          omega
        refine ⟨fun _ => JW.up (n := 2) (fun y => useI0 (k_order (d := y) ka2.1 b2 xz et) ?_) (by omega), fun y => absurd rfl y⟩
        rintro v5 h5 hI5 _ ⟨sx, he5⟩
        have he5 := he5.symm
        subst he5
        refine ⟨fun y => next b ?_ ?_, fun y => ⟨nr.1, own2, fin_truth C S2 il (by omega) ?_ (by omega)⟩⟩
        · have : (vCmp x yv == 0) = false := by simpa using fun z => y (sx.2.mpr z)
          rw [e, this]; rfl
        · rw [e]; show (b || false) = b; simp
        · have : (vCmp x yv == 0) = true := by simpa using sx.2.mp y
          rw [step, e, this]
          show (((ndP (nat_ A i)).drop (k + 1)).foldlM (inF A E pv grp f R x) (true, _) >>= amE) = _
          rw [in_true]; rfl
      · rintro y h2 _ hI2 ⟨c, hm, c1, c2, c3⟩
        refine endX fun _ _ => ⟨c, hm, ?_, c2, c3⟩
        rw [ez]
        unfold inF
        rw [if_neg (show ¬ false = true by decide), c1]
        rfl
end
