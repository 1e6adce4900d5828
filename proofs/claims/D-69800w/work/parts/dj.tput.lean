/-! the component: cells of tables are written one by one -/
section
variable {D : JD} {h h' h'' h0 h1 h2 : JH} {t u B e i j k n d r c : Nat} {tb tb' : Tab} {x : Val} {vals row : List Val}
/-- a cell of a table is written -/
theorem tab_cel (hI1 : JInv D h1) (hI2 : JInv D h2) (hle : jle h1 h2) (ow : OW h1) (ot : OT h1) (tw : TabW D h1 t) (hk : k < 100) (hj : j < 10) (hr : jar h1 (jfr h1 45 t) k ≠ 0) (hf : CelF h1 h2 (tce h1 t k j)) (hw : Cel D h2 (tce h1 t k j) x) :
    TF D t h1 h2 ∧ same h1 h2 t ∧ (∀ k', jar h2 (jfr h2 45 t) k' = jar h1 (jfr h1 45 t) k') ∧ ∀ k' j', k' < 100 → j' < 10 → jar h1 (jfr h1 45 t) k' ≠ 0 → tce h2 t k' j' = tce h1 t k' j' ∧ ∀ v, (k' = k ∧ j' = j → v = x) → (¬ (k' = k ∧ j' = j) → Cel D h1 (tce h1 t k' j') v) → Cel D h2 (tce h1 t k' j') v := by
  have tf := TF.cel hI1 hI2 hle ow ot tw hk hj hr hf hw.1
  have rk := (tw.2.2 k hk).resolve_left hr
  have cw := (rk.2.2.2 j hj).1
  have k140 : jkd h1 (jfr h1 45 t) = 140 := hI1.ref (F := 45) (by decide +kernel) tw.2.1.1
  have sm : ∀ q, q ≤ jsz h1 → jkd h1 q ≠ 0 → jkd h1 q ≠ 96 → jkd h1 q ≠ 144 → same h1 h2 q := fun q q1 q2 q3 q4 => hf.1 q q1 (by
    rintro (z | z)
    · rw [z] at q3; exact q3 (rk.2.2.2 j hj).2
    · rcases cw.2.2.2.2 with w | w
      · have := (hI1.1 q q2).1
        have z : q = jfr h1 67 (jar h1 (jar h1 (jfr h1 45 t) k) j) := z
        omega
      · have z : q = jfr h1 67 (jar h1 (jar h1 (jfr h1 45 t) k) j) := z
        rw [← z] at w; exact q4 w.1)
  have s0 := sm t (hI1.lt (by rw [tw.1.2]; decide)) (by rw [tw.1.2]; decide) (by rw [tw.1.2]; decide) (by rw [tw.1.2]; decide)
  have sR := sm _ (hI1.refl (F := 45) (r := t)) (by omega) (by omega) (by omega)
  refine ⟨tf, s0, fun k' => by rw [s0.fr, sR.ar], fun k' j' h1' h2' h3' => ?_⟩
  have ra := (tw.2.2 k' h1').resolve_left h3'
  have sr := sm _ (hI1.arl (a := jfr h1 45 t) (i := k')) (by rw [ra.2.1]; decide) (by rw [ra.2.1]; decide) (by rw [ra.2.1]; decide)
  refine ⟨by unfold tce; rw [s0.fr, sR.ar, sr.ar], fun v e1 e2 => ?_⟩
  by_cases z : k' = k ∧ j' = j
  · obtain ⟨z1, z2⟩ := z
    subst z1 z2
    rw [e1 ⟨rfl, rfl⟩]
    exact hw
  · exact (e2 z).other hI1 ow.tx hf (tcell_ne hI1 tw ot h1' hk h2' hj h3' hr z) cw
/-- the head of a table stays -/
theorem TabR.head (k : TabR D h1 t tb) (hI1 : JInv D h1) (tf : TF D t h1 h2) (s0 : same h1 h2 t) : TabW D h2 t ∧ StR h2 (jfr h2 42 t) tb.1 ∧ ColsR D h2 (jfr h2 43 t) tb.2.1 ∧ jfi h2 44 t = nI tb.2.1.length ∧ jfi h2 46 t = nI tb.2.2.length := by
  obtain ⟨k1, k2, k3, k4, k5, k6⟩ := k
  exact ⟨tf.2.2.2.2.1 k1, by rw [s0.fr]; exact tf.1.str hI1 k2 ⟨rfl, rfl, rfl, rfl⟩, by rw [s0.fr]; exact k3.kf tf.1 hI1 ⟨rfl, rfl⟩ ⟨rfl, rfl, rfl, rfl⟩, by rw [s0.fi]; exact k4, by rw [s0.fi]; exact k5.1⟩
/-- a value of a row is written -/
theorem TabR.putc (kt : TabR D h1 t tb) (hI1 : JInv D h1) (hI2 : JInv D h2) (hle : jle h1 h2) (ow : OW h1) (ot : OT h1) (hk : tb.2.2[k]? = some row) (rl : row.length = tb.2.1.length) (hj : j < tb.2.1.length) (hf : CelF h1 h2 (tce h1 t k j)) (hw : Cel D h2 (tce h1 t k j) x) :
    TF D t h1 h2 ∧ TabR D h2 t (tb.1, tb.2.1, tb.2.2.set k (row.set j x)) := by
  have w10 := kt.2.2.1.2.2.2.1
  have kl := (List.getElem?_eq_some_iff.mp hk).1
  have l100 := kt.2.2.2.2.1.2
  obtain ⟨r1, r2⟩ := kt.2.2.2.2.2 k row hk
  obtain ⟨tf, s0, ea, ec⟩ := tab_cel hI1 hI2 hle ow ot kt.1 (by omega) (show j < 10 by omega) r1 hf hw
  obtain ⟨b1, b2, b3, b4, b5⟩ := kt.head hI1 tf s0
  refine ⟨tf, b1, b2, b3, b4, ⟨by rw [List.length_set]; exact b5, by rw [List.length_set]; exact l100⟩, fun k' r' hr' => ?_⟩
  have hr' : (tb.2.2.set k (row.set j x))[k']? = some r' := hr'
  rw [List.getElem?_set] at hr'
  rw [ea]
  by_cases z : k = k'
  · subst z
    rw [if_pos rfl, if_pos kl] at hr'
    cases hr'
    refine ⟨r1, fun c hc => ?_⟩
    obtain ⟨e1, e2⟩ := ec k c (by omega) (by have hc : c < tb.2.1.length := hc; omega) r1
    rw [e1]
    refine e2 _ (fun w => ?_) (fun w => ?_)
    · obtain ⟨_, rfl⟩ := w
      rw [List.getD_eq_getElem?_getD, List.getElem?_set_self (by omega)]
      rfl
    · rw [List.getD_eq_getElem?_getD, List.getElem?_set_ne (fun y => w ⟨rfl, y.symm⟩), ← List.getD_eq_getElem?_getD]
      exact r2 c hc
  · rw [if_neg z] at hr'
    have kl' := (List.getElem?_eq_some_iff.mp hr').1
    obtain ⟨q1, q2⟩ := kt.2.2.2.2.2 k' r' hr'
    refine ⟨q1, fun c hc => ?_⟩
    obtain ⟨e1, e2⟩ := ec k' c (by omega) (by have hc : c < tb.2.1.length := hc; omega) q1
    rw [e1]
    exact e2 _ (fun w => absurd w.1.symm z) fun _ => q2 c hc
/-- cells of a row behind the last -/
def NrR (D : JD) (h : JH) (t c : Nat) (vals : List Val) : Prop := jar h (jfr h 45 t) c ≠ 0 ∧ ∀ i, i < vals.length → Cel D h (tce h t c i) (vals.getD i vNull)
theorem TabR.putn (kt : TabR D h1 t tb) (nr : NrR D h1 t tb.2.2.length vals) (hI1 : JInv D h1) (hI2 : JInv D h2) (hle : jle h1 h2) (ow : OW h1) (ot : OT h1) (l100 : tb.2.2.length < 100) (hj : vals.length < 10) (hf : CelF h1 h2 (tce h1 t tb.2.2.length vals.length)) (hw : Cel D h2 (tce h1 t tb.2.2.length vals.length) x) :
    TF D t h1 h2 ∧ TabR D h2 t tb ∧ NrR D h2 t tb.2.2.length (vals ++ [x]) ∧ jar h2 (jfr h2 45 t) tb.2.2.length = jar h1 (jfr h1 45 t) tb.2.2.length := by
  have w10 := kt.2.2.1.2.2.2.1
  obtain ⟨tf, s0, ea, ec⟩ := tab_cel hI1 hI2 hle ow ot kt.1 l100 hj nr.1 hf hw
  obtain ⟨b1, b2, b3, b4, b5⟩ := kt.head hI1 tf s0
  refine ⟨tf, ⟨b1, b2, b3, b4, ⟨b5, kt.2.2.2.2.1.2⟩, fun k' r' hr' => ?_⟩, ⟨by rw [ea]; exact nr.1, fun i hi => ?_⟩, ea _⟩
  · rw [ea]
    have kl' := (List.getElem?_eq_some_iff.mp hr').1
    obtain ⟨q1, q2⟩ := kt.2.2.2.2.2 k' r' hr'
    refine ⟨q1, fun c hc => ?_⟩
    obtain ⟨e1, e2⟩ := ec k' c (by omega) (by omega) q1
    rw [e1]
    exact e2 _ (fun w => absurd w.1 (by omega)) fun _ => q2 c hc
  · rw [List.length_append] at hi
    have hi : i < vals.length + 1 := hi
    obtain ⟨e1, e2⟩ := ec tb.2.2.length i l100 (by omega) nr.1
    rw [e1]
    refine e2 _ (fun w => ?_) (fun w => ?_)
    · obtain ⟨_, rfl⟩ := w
      exact getD_last
    · have il : i < vals.length := by
        rcases Nat.lt_or_ge i vals.length with y | y
        · exact y
        · exact absurd ⟨rfl, by omega⟩ w
      rw [getD_snoc i il]
      exact nr.2 i il
/-- one row more counts -/
theorem TabR.more (kt : TabR D h1 t tb) (nr : NrR D h1 t tb.2.2.length vals) (hI1 : JInv D h1) (l100 : tb.2.2.length < 100) (hv : vals.length = tb.2.1.length) : TF D t h1 (wfi h1 46 t (nI (tb.2.2.length + 1))) ∧ TabR D (wfi h1 46 t (nI (tb.2.2.length + 1))) t (tb.1, tb.2.1, tb.2.2 ++ [vals]) := by
  have tf : TF D t h1 (wfi h1 46 t (nI (tb.2.2.length + 1))) := TF.fi hI1 kt.1.1.2
  obtain ⟨k1, k2, k3, k4, k5, k6⟩ := kt
  have cel : ∀ {k' c' v}, k' < 100 → c' < 10 → jar h1 (jfr h1 45 t) k' ≠ 0 → Cel D h1 (tce h1 t k' c') v → Cel D (wfi h1 46 t (nI (tb.2.2.length + 1))) (tce h1 t k' c') v := fun {k' c' v} h1' h2' h3' cv => by
    have ra := (k1.2.2 k' h1').resolve_left h3'
    have kc : jkd h1 (tce h1 t k' c') = 96 := (ra.2.2.2 c' h2').2
    refine cv.of (same_wfi fun z => ?_) fun h0 => same_wfi fun z => ?_
    · rw [z, k1.1.2] at kc; cases kc
    · have := (cv.1.2.2.2.2.resolve_left h0).1
      rw [z, k1.1.2] at this; cases this
  refine ⟨tf, tf.2.2.2.2.1 k1, tf.1.str hI1 k2 ⟨rfl, rfl, rfl, rfl⟩, k3.kf tf.1 hI1 ⟨rfl, rfl⟩ ⟨rfl, rfl, rfl, rfl⟩, by rw [jfi_wfi, if_neg (by omega)]; exact k4, ⟨by rw [jfi_wfi, if_pos ⟨rfl, rfl⟩, List.length_append]; rfl, by rw [List.length_append]; exact l100⟩, fun k' r' hr' => ?_⟩
  have w10 := k3.2.2.2.1
  rcases get_snoc hr' with ⟨g1, g2⟩ | ⟨g1, g2⟩
  · subst g1 g2
    refine ⟨nr.1, fun c hc => cel l100 (by have hc : c < tb.2.1.length := hc; omega) nr.1 (nr.2 c (by rw [hv]; exact hc))⟩
  · obtain ⟨q1, q2⟩ := k6 k' r' g2
    have kl' := (List.getElem?_eq_some_iff.mp g2).1
    exact ⟨q1, fun c hc => cel (by omega) (by have hc : c < tb.2.1.length := hc; omega) q1 (q2 c hc)⟩
/-- the row behind the last is made where it is lacking -/
theorem TabR.nrow (kt : TabR D h1 t tb) (hI1 : JInv D h1) (tf : TF D t h1 h2) (raf : RaF (jfr h1 45 t) tb.2.2.length h1 h2) (hv : jar h2 (jfr h1 45 t) tb.2.2.length ≠ 0) : TabR D h2 t tb ∧ NrR D h2 t tb.2.2.length [] := by
  have k140 : jkd h1 (jfr h1 45 t) = 140 := hI1.ref (F := 45) (by decide +kernel) kt.1.2.1.1
  have nk : ∀ q, q ≤ jsz h1 → jkd h1 q ≠ 140 → same h1 h2 q := fun q q1 q2 => raf.1 q q1 fun z => q2 (by rw [z]; exact k140)
  have s0 := nk t (hI1.lt (by rw [kt.1.1.2]; decide)) (by rw [kt.1.1.2]; decide)
  obtain ⟨b1, b2, b3, b4, b5⟩ := kt.head hI1 tf s0
  refine ⟨⟨b1, b2, b3, b4, ⟨b5, kt.2.2.2.2.1.2⟩, fun k' r' hr' => ?_⟩, ⟨by rw [s0.fr]; exact hv, fun i hi => absurd hi (Nat.not_lt_zero _)⟩⟩
  have kl' := (List.getElem?_eq_some_iff.mp hr').1
  have l100 := kt.2.2.2.2.1.2
  have w10 := kt.2.2.1.2.2.2.1
  obtain ⟨q1, q2⟩ := kt.2.2.2.2.2 k' r' hr'
  have ra := (kt.1.2.2 k' (by omega)).resolve_left q1
  have er : jar h2 (jfr h2 45 t) k' = jar h1 (jfr h1 45 t) k' := by rw [s0.fr]; exact raf.2 k' (Or.inl (by omega))
  refine ⟨by rw [er]; exact q1, fun c hc => ?_⟩
  have cu : CelW D h1 (tce h1 t k' c) ∧ jkd h1 (tce h1 t k' c) = 96 := ra.2.2.2 c (by omega)
  have et : tce h2 t k' c = tce h1 t k' c := by
    unfold tce
    rw [er, (nk _ hI1.arl (by rw [ra.2.1]; decide)).ar]
  rw [et]
  exact (q2 c hc).of (nk _ hI1.arl (by rw [cu.2]; decide)) fun z => nk _ hI1.refl (by rw [(cu.1.2.2.2.2.resolve_left z).1]; decide)
end
