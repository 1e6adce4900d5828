/-! the component: a row of a table, made if need be -/
section
variable {D : JD} {h h' h'' h0 h1 h2 : JH} {d ka kc nn RA k j q c t u r : Nat}
/-- only what RA holds at k has changed -/
def RaF (RA k : Nat) (h h' : JH) : Prop := (∀ q, q ≤ jsz h → q ≠ RA → same h h' q) ∧ ∀ i, (i ≠ k ∨ jar h RA k ≠ 0) → jar h' RA i = jar h RA i
theorem RaF.rf : RaF RA k h h := ⟨fun _ _ _ => same.rf _ _, fun _ _ => rfl⟩
theorem RwI.cell (k1 : RwI ka kc nn h0 RA k j h1) (hI : JInv D h0) (hs : sbt kc 8 = true ∧ jkk kc = true) {i : Nat} (hi : i < j) : CelW D h1 (jsz h0 + 2 + i) := by
  obtain ⟨a1, a2, ⟨a3, a4⟩, a5, ⟨a6, a7⟩, a8, a9, a10, a11, a12⟩ := k1
  obtain ⟨b1, b2⟩ := a9 i hi
  refine ⟨by omega, by rw [b1]; exact hs.1, by rw [b1]; exact hs.2, Or.inr b2, Or.inl ?_⟩
  rw [a10 67 _ (by decide)]
  exact ((hI.2.2.2.2.1 (jsz h0 + 2 + i) (by omega)).1 67).2.2
theorem RwI.row (k1 : RwI ka kc nn h0 RA k nn h1) (hI : JInv D h0) (hs : sbt kc 8 = true ∧ jkk kc = true) : RowK D ka kc nn h1 (jsz h0 + 1) := by
  refine ⟨by omega, k1.2.2.2.2.1.1, k1.2.2.2.2.1.2, fun i hi => ?_⟩
  rw [k1.2.2.2.2.2.1 i, if_pos hi]
  exact ⟨k1.cell hI hs hi, (k1.2.2.2.2.2.2.1 i hi).1⟩
theorem RwI.raf (k1 : RwI ka kc nn h0 RA k j h1) (hz : jar h0 RA k = 0) : RaF RA k h0 h1 := by
  refine ⟨k1.2.1, fun i hi => ?_⟩
  rw [k1.2.2.2.1, if_neg]
  intro e
  rcases hi with z | z
  · exact z e
  · exact z hz
theorem RwI.ow (k1 : RwI ka kc nn h0 RA k j h1) (o : OW h0) : OW h1 := fun F a b hF => by
  rw [k1.2.2.2.2.2.2.2.1 F a (by omega), k1.2.2.2.2.2.2.2.1 F b (by omega)]
  exact o F a b hF
theorem w_rowL {Q : JO → JH → Prop} (hI : JInv D h) (tw : TabW D h t) (hk : k < 100) (hd : 1 ≤ d) (hQ : ∀ h1, RwI 224 96 10 h (jfr h 45 t) k 10 h1 → Q (.inl (some (vR 76 (jsz h + 1)))) h1) :
    ∀ (m j : Nat) (h1 : JH), j + m = 10 → RwI 224 96 10 h (jfr h 45 t) k j h1 → L_X5_row_22 D d Q (m + 1) t (nI k) (nI j) h1
  | m, j, h1, hjm, R => by
    have e5 : jfr h1 45 t = jfr h 45 t := R.2.2.2.2.2.2.2.1 45 t (by decide)
    have jn : jin (nI k) (jln h1 (jfr h1 45 t)) := by rw [e5, R.2.2.1.2, tw.2.1.2]; exact jin_nI hk (by decide)
    have ix : ixn (nI k) = k := ixn_nI (by omega)
    have er : jar h1 (jfr h1 45 t) k = jsz h + 1 := by rw [e5, R.2.2.2.1, if_pos rfl]
    refine ⟨fun y => ⟨tw.1.1, by rw [e5]; exact tw.2.1.1, jn, ?_⟩, fun y => ⟨tw.1.1, by rw [e5]; exact tw.2.1.1, jn, ?_⟩⟩
    · have y := (nI_leI (a := 10) (by omega) (by omega)).mp y
      have : j = 10 := by omega
      subst this
      rw [ix, er]
      exact hQ h1 R
    · have jl : j < 10 := Nat.lt_of_not_le fun z => y ((nI_leI (a := 10) (by omega) (by omega)).mpr z)
      obtain ⟨m', rfl⟩ : ∃ m', m = m' + 1 := ⟨m - 1, by omega⟩
      rw [ix, er]
      rintro c h2 rfl rfl
      refine JW.up (n := 1) (fun y => useV0 (k_cInit' (d := y) (by omega)) ?_) hd
      rintro h3 hI3 _ rfl
      have ln : jln (wfi (wfr (nwo h1 96 5) 64 (jsz h1 + 1) (jcs D 345)) 65 (jsz h1 + 1) 1) (jsz h + 1) = 10 := R.2.2.2.2.1.2
      refine ⟨by omega, by rw [ln]; exact jin_nI jl (by decide), ?_⟩
      rintro h4 rfl
      rw [nI_1, ixn_nI (by omega)]
      exact w_rowL hI tw hk hd hQ m' (j + 1) _ (by omega) (R.step hI hI.refl)
/-- the row k of the table t -/
theorem w_rowM (tw : TabW D h t) (ot : OT h) (ow : OW h) (hk : k < 100) (hd : 2 ≤ d) : cX5_row D d t (nI k) h (pR D h 76 (fun v h' => v = jar h' (jfr h 45 t) k ∧ v ≠ 0 ∧ TF D t h h' ∧ RaF (jfr h 45 t) k h h') no) := by
  obtain ⟨e, rfl, he⟩ := dsucc hd
  by_cases hz : jar h (jfr h 45 t) k = 0
  · have ix : ixn (nI k) = k := ixn_nI (by omega)
    have jn : jin (nI k) (jln h (jfr h 45 t)) := by rw [tw.2.1.2]; exact jin_nI hk (by decide)
    refine JW.inv fun hI => t_X5_row ⟨tw.1.1, tw.2.1.1, jn, ?_⟩
    rw [ix]
    refine ⟨fun z => absurd hz z, fun _ => ?_⟩
    rintro r1 h1 rfl rfl
    have RAl : jfr h 45 t ≤ jsz h := hI.refl
    have k140 : jkd h (jfr h 45 t) = 140 := hI.ref (F := 45) (by decide +kernel) tw.2.1.1
    refine ⟨by rw [jln_nwa, if_neg (by omega)]; exact jn, ?_⟩
    rintro h2 rfl
    refine ⟨11, w_rowL hI tw hk (by omega) ?_ 10 0 _ rfl (RwI.start (D := D) hI (by decide) RAl)⟩
    intro h3 R
    refine endR fun hI3 hle _ => ?_
    have er : jar h3 (jfr h 45 t) k = jsz h + 1 := by rw [R.2.2.2.1, if_pos rfl]
    have raf := R.raf hz
    have e5 : ∀ q, jfr h3 45 q = jfr h 45 q := fun q => R.2.2.2.2.2.2.2.1 45 q (by decide)
    refine ⟨er.symm, by omega, ⟨⟨fun q q1 q2 q3 _ => raf.1 q q1 fun z => ?_, by have := R.1; omega, R.2.2.2.2.2.2.2.2.2, R.ow⟩, fun u hu uw => ?_, e5 t, fun o => R.ot hI RAl o rfl (by rw [k140]; rfl) (by decide) hI3, fun _ => ?_, ?_⟩, raf⟩
    · rw [z, k140] at q3; cases q3
    · have k140u : jkd h (jfr h 45 u) = 140 := hI.ref (F := 45) (by decide +kernel) uw.2.1.1
      have nk : ∀ q, q ≤ jsz h → jkd h q ≠ 140 → same h h3 q := fun q q1 q2 => raf.1 q q1 fun z => q2 (by rw [z]; exact k140)
      refine ⟨nk u (hI.lt (by rw [uw.1.2]; decide)) (by rw [uw.1.2]; decide), raf.1 _ hI.refl fun z => hu (ot.2 u t z uw.2.1.1), fun k' hk' hr' => ?_⟩
      have ru := (uw.2.2 k' hk').resolve_left hr'
      refine ⟨nk _ hI.arl (by rw [ru.2.1]; decide), fun j' hj' => ?_⟩
      have cu := ru.2.2.2 j' hj'
      exact ⟨nk _ hI.arl (by rw [cu.2]; decide), fun z => nk _ hI.refl (by rw [(cu.1.2.2.2.2.resolve_left z).1]; decide)⟩
    · have nk : ∀ q, q ≤ jsz h → jkd h q ≠ 140 → same h h3 q := fun q q1 q2 => raf.1 q q1 fun z => q2 (by rw [z]; exact k140)
      refine ⟨⟨tw.1.1, by rw [R.2.2.2.2.2.2.2.2.2 t (by rw [tw.1.2]; decide)]; exact tw.1.2⟩, by rw [e5, R.2.2.1.2]; exact tw.2.1, fun k' hk' => ?_⟩
      rw [e5]
      by_cases z : k' = k
      · rw [z, er]
        exact Or.inr (R.row hI ⟨by decide, by decide⟩)
      · rw [raf.2 k' (Or.inl z)]
        by_cases y : jar h (jfr h 45 t) k' = 0
        · exact Or.inl y
        · have ru := (tw.2.2 k' hk').resolve_left y
          refine Or.inr (ru.of (nk _ hI.arl (by rw [ru.2.1]; decide)) fun j' hj' => ?_)
          have cu := ru.2.2.2 j' hj'
          exact ⟨nk _ hI.arl (by rw [cu.2]; decide), fun z => nk _ hI.refl (by rw [(cu.1.2.2.2.2.resolve_left z).1]; decide)⟩
    · have := nz_put (h := h) (h' := h3) (q := jfr h 45 t) (v := jsz h + 1) hk hz (by omega) fun i _ => R.2.2.2.1 i
      exact R.2.2.2.2.2.2.2.2.1.mono (by omega) (by omega)
  · refine useR0 (w_row tw.1.1 tw.2.1 hk hz (by omega)) ?_
    rintro v h1 hI1 _ ⟨rfl, he1⟩
    have he1 := he1.symm
    subst he1
    exact ⟨rfl, hz, TF.rf, RaF.rf⟩
end
