/-! the component: a table holds what the specification says; a table is copied -/
section
variable {D : JD} {h h' h'' h0 h1 h2 : JH} {d ka kc nn RA k j q c t u r w : Nat} {tb : Tab}
/-- the cell j of the row k of the table t -/
def tce (h : JH) (t k j : Nat) : Nat := jar h (jar h (jfr h 45 t) k) j
def TabR (D : JD) (h : JH) (t : Nat) (tb : Tab) : Prop :=
  TabW D h t ∧ StR h (jfr h 42 t) tb.1 ∧ ColsR D h (jfr h 43 t) tb.2.1 ∧ jfi h 44 t = nI tb.2.1.length ∧ (jfi h 46 t = nI tb.2.2.length ∧ tb.2.2.length ≤ 100) ∧ ∀ (k : Nat) (r : List Val), tb.2.2[k]? = some r → jar h (jfr h 45 t) k ≠ 0 ∧ ∀ c, c < tb.2.1.length → Cel D h (tce h t k c) (r.getD c vNull)
theorem ColsR.kf {K : Nat → Bool} {l : List Col} (k : ColsR D h r l) (a : KF K h h') (hI : JInv D h) (k1 : K 225 = false ∧ K 16 = false) (k2 : K 12 = false ∧ K 51 = false ∧ K 66 = false ∧ K 219 = false) : ColsR D h' r l := by
  obtain ⟨c1, c2, c3, c4, c5⟩ := k
  have s := a.obj (q := r) hI (by omega) (by omega) (by rw [c2]; exact k1.1)
  refine ⟨c1, by rw [s.kd]; exact c2, by rw [s.ln]; exact c3, c4, fun i c hc => ?_⟩
  rw [s.ar]
  have cr := c5 i c hc
  exact cr.of (a.obj hI (by rw [cr.2.1]; decide) (by rw [cr.2.1]; decide) (by rw [cr.2.1]; exact k1.2)) fun q w z => a.str hI z k2
theorem TabR.of (k : TabR D h u tb) (s : TbS h h' u) (a : KF tK h h') (hI : JInv D h) : TabR D h' u tb := by
  obtain ⟨k1, k2, k3, k4, k5, k6⟩ := k
  obtain ⟨s1, s2, s3⟩ := s
  refine ⟨k1.of ⟨s1, s2, s3⟩, by rw [s1.fr]; exact a.str hI k2 ⟨rfl, rfl, rfl, rfl⟩, by rw [s1.fr]; exact k3.kf a hI ⟨rfl, rfl⟩ ⟨rfl, rfl, rfl, rfl⟩, by rw [s1.fi]; exact k4, by rw [s1.fi]; exact k5, fun i r hr => ?_⟩
  obtain ⟨r1, r2⟩ := k6 i r hr
  have il : i < 100 := by
    have := (List.getElem?_eq_some_iff.mp hr).1
    have := k5.2
    omega
  obtain ⟨t1, t2⟩ := s3 i il r1
  refine ⟨by rw [s1.fr, s2.ar]; exact r1, fun c hc => ?_⟩
  have cl : c < 10 := by have := k3.2.2.2.1; omega
  unfold tce
  rw [s1.fr, s2.ar, t1.ar]
  exact (r2 c hc).of (t2 c cl).1 (t2 c cl).2
theorem tcell_ne {k' j' : Nat} (hI : JInv D h) (tw : TabW D h t) (ot : OT h) (hk : k < 100) (hk' : k' < 100) (hj : j < 10) (hj' : j' < 10) (hr : jar h (jfr h 45 t) k ≠ 0) (hr' : jar h (jfr h 45 t) k' ≠ 0) (ne : ¬ (k = k' ∧ j = j')) : tce h t k j ≠ tce h t k' j' := by
  intro e
  have k140 : jkd h (jfr h 45 t) = 140 := hI.ref (F := 45) (by decide +kernel) tw.2.1.1
  have r1 := (tw.2.2 k hk).resolve_left hr
  have r2 := (tw.2.2 k' hk').resolve_left hr'
  have o1 := ot.1 _ _ _ _ (by rw [r1.2.1]; rfl) (by rw [r2.2.1]; rfl) e (r1.2.2.2 j hj).1.1
  have o2 := ot.1 _ _ _ _ (by rw [k140]; rfl) (by rw [k140]; rfl) o1.1 hr
  exact ne ⟨o2.2, o1.2⟩
theorem JInv.k140 (hI : JInv D h) : ∀ u, jfr h 45 u ≠ 0 → jkd h (jfr h 45 u) = 140 := fun _ z => hI.ref (F := 45) (by decide +kernel) z
theorem TF.own (h14 : ∀ u, jfr h 45 u ≠ 0 → jkd h (jfr h 45 u) = 140) (kt : jkd h t = 5) (s : ∀ q, q ≠ t → same h h' q) (ek : jkd h' t = jkd h t) (ef : ∀ F q, F = 45 ∨ F = 67 ∨ F = 108 ∨ F = 115 → jfr h' F q = jfr h F q) (ea : ∀ q i, jar h' q i = jar h q i) (ez : jsz h' = jsz h) (sp : Sp h h' 0 0) : TF D t h h' := by
  have kd : ∀ q, jkd h' q = jkd h q := fun q => by
    by_cases e : q = t
    · rw [e]; exact ek
    · exact (s q e).kd
  refine ⟨⟨fun q _ _ q3 _ => s q fun e => ?_, by omega, fun q _ => kd q, fun o F a b hF => by rw [ef F a (by omega), ef F b (by omega)]; exact o F a b hF⟩, fun u hu uw => ?_, ef 45 t (by omega), fun o => ⟨fun a b i j => by rw [kd, kd, ea, ea]; exact o.1 a b i j, fun a b => by rw [ef 45 a (by omega), ef 45 b (by omega)]; exact o.2 a b⟩, fun tw => ?_, ?_⟩
  · rw [e, kt] at q3; cases q3
  · have k140u : jkd h (jfr h 45 u) = 140 := h14 u uw.2.1.1
    have nk : ∀ q, jkd h q ≠ 5 → same h h' q := fun q q2 => s q fun z => q2 (by rw [z]; exact kt)
    refine ⟨s u hu, nk _ (by omega), fun k' hk' hr' => ?_⟩
    have ru := (uw.2.2 k' hk').resolve_left hr'
    refine ⟨nk _ (by rw [ru.2.1]; decide), fun j' hj' => ?_⟩
    have cu := ru.2.2.2 j' hj'
    exact ⟨nk _ (by rw [cu.2]; decide), fun z => nk _ (by rw [(cu.1.2.2.2.2.resolve_left z).1]; decide)⟩
  · have k140u : jkd h (jfr h 45 t) = 140 := h14 t tw.2.1.1
    have nk : ∀ q, jkd h q ≠ 5 → same h h' q := fun q q2 => s q fun z => q2 (by rw [z]; exact kt)
    have e5 := ef 45 t (by omega)
    refine ⟨⟨tw.1.1, by rw [kd]; exact tw.1.2⟩, by rw [e5, (nk _ (by omega)).ln]; exact tw.2.1, fun k' hk' => ?_⟩
    rw [e5, ea]
    rcases tw.2.2 k' hk' with z | ru
    · exact Or.inl z
    · refine Or.inr (ru.of (nk _ (by rw [ru.2.1]; decide)) fun j' hj' => ?_)
      have cu := ru.2.2.2 j' hj'
      exact ⟨nk _ (by rw [cu.2]; decide), fun z => nk _ (by rw [(cu.1.2.2.2.2.resolve_left z).1]; decide)⟩
  · have : nz h' (jfr h 45 t) 100 = nz h (jfr h 45 t) 100 := nz_same fun i _ => ea _ i
    rw [this]
    exact sp.mono (by omega) (by omega)
theorem TF.fi {F : Nat} {x : Int32} (hI : JInv D h) (kt : jkd h t = 5) : TF D t h (wfi h F t x) :=
  TF.own hI.k140 kt (fun q hq => same_wfi hq) rfl (fun _ _ _ => rfl) (fun _ _ => rfl) rfl Sp.fi
theorem TF.fr {F v : Nat} (hI : JInv D h) (kt : jkd h t = 5) (hF : F = 42 ∨ F = 43) : TF D t h (wfr h F t v) :=
  TF.own hI.k140 kt (fun q hq => same_wfr hq) rfl (fun G q hG => by rw [jfr_wfr, if_neg (by omega)]) (fun _ _ => rfl) rfl (Sp.fr (Or.inl (by omega)))
/-- a table is made anew -/
theorem w_define {s c : Nat} {x : Int32} (hI : JInv D h) (tw : TabW D h t) (hd : 1 ≤ d) : cX5_define D d t s c x h (pV D h (fun h' => TF D t h h' ∧ jfr h' 42 t = s ∧ jfr h' 43 t = c ∧ jfi h' 44 t = x ∧ jfi h' 46 t = 0 ∧ ∀ q, q ≠ t → same h h' q) no) := by
  obtain ⟨e, rfl, he⟩ := dsucc hd
  refine t_X5_define ⟨tw.1.1, ?_⟩
  rintro h1 rfl h2 rfl h3 rfl h4 rfl
  refine endV fun _ _ => ⟨TF.own hI.k140 tw.1.2 (fun q hq => ((same_wfr hq).tr (same_wfr hq)).tr ((same_wfi hq).tr (same_wfi hq))) rfl (fun G q hG => ?_) (fun _ _ => rfl) rfl ?_, ?_, ?_, ?_, ?_, fun q hq => ((same_wfr hq).tr (same_wfr hq)).tr ((same_wfi hq).tr (same_wfi hq))⟩
  · show jfr (wfr (wfr h 42 t s) 43 t c) G q = _
    rw [jfr_wfr, if_neg (by omega), jfr_wfr, if_neg (by omega)]
  · exact (((Sp.fr (F := 42) (r := t) (v := s) (Or.inl (by decide))).tr (Sp.fr (F := 43) (r := t) (v := c) (Or.inl (by decide)))).tr ((Sp.fi (F := 44) (r := t) (v := x)).tr (Sp.fi (F := 46) (r := t) (v := 0)))).mono (by omega) (by omega)
  · show jfr (wfr (wfr h 42 t s) 43 t c) 42 t = _
    rw [jfr_wfr, if_neg (by omega), jfr_wfr, if_pos ⟨rfl, rfl⟩]
  · show jfr (wfr (wfr h 42 t s) 43 t c) 43 t = _
    rw [jfr_wfr, if_pos ⟨rfl, rfl⟩]
  · rw [jfi_wfi, if_neg (by omega), jfi_wfi, if_pos ⟨rfl, rfl⟩]
  · rw [jfi_wfi, if_pos ⟨rfl, rfl⟩]
/-- k rows, and j cells of the next, have been copied -/
def CpI (D : JD) (h : JH) (t : Nat) (tb : Tab) (k j : Nat) (h1 : JH) : Prop :=
  TF D t h h1 ∧ TabW D h1 t ∧ OT h1 ∧ OW h1 ∧ (StR h1 (jfr h1 42 t) tb.1 ∧ ColsR D h1 (jfr h1 43 t) tb.2.1 ∧ jfi h1 44 t = nI tb.2.1.length) ∧
  ∀ (k' : Nat) (r : List Val), tb.2.2[k']? = some r → (k' < k ∨ (k' = k ∧ 0 < j)) → jar h1 (jfr h1 45 t) k' ≠ 0 ∧ ∀ c, c < tb.2.1.length → (k' < k ∨ c < j) → Cel D h1 (tce h1 t k' c) (r.getD c vNull)
theorem w_tcpR {Q : JO → JH → Prop} {K18 : Nat → Nat → Int32 → JH → Prop} {r : List Val} (hI : JInv D h) (ku : TabR D h u tb) (ne : u ≠ t) (hr : tb.2.2[k]? = some r) (hd : 9 ≤ d) (hK : ∀ h2, JInv D h2 → CpI D h t tb (k + 1) 0 h2 → K18 t u (nI k + 1) h2) :
    ∀ (m j : Nat) (h1 : JH), j + m = tb.2.1.length → JInv D h1 → CpI D h t tb k j h1 → jar h1 (jfr h1 45 t) k ≠ 0 → L_X5_copy_35 D d Q K18 (m + 1) t u (nI k) (jar h1 (jfr h1 45 t) k) (nI j) h1
  | m, j, h1, hjm, hI1, I, rn => by
    obtain ⟨i1, i2, i3, i4, ⟨i5, i6, i7⟩, i8⟩ := I
    have ku1 : TabR D h1 u tb := ku.of (i1.2.1 u ne ku.1) i1.1 hI
    have w10 := ku.2.2.1.2.2.2.1
    have kl : k < 100 := by
      have := (List.getElem?_eq_some_iff.mp hr).1
      have := ku.2.2.2.2.1.2
      omega
    have rk := (i2.2.2 k kl).resolve_left rn
    obtain ⟨ru, cu⟩ := ku1.2.2.2.2.2 k r hr
    have ruw := (ku1.1.2.2 k kl).resolve_left ru
    refine ⟨i2.1.1, fun y => ?_, fun y => ?_⟩
    · rw [i7] at y
      have y := (nI_leI (by omega) (by omega)).mp y
      refine hK h1 hI1 ⟨i1, i2, i3, i4, ⟨i5, i6, i7⟩, fun k' r' hr' hk' => ?_⟩
      rcases (show k' < k ∨ k' = k by omega) with e | e
      · obtain ⟨a, b⟩ := i8 k' r' hr' (Or.inl e)
        exact ⟨a, fun c hc _ => b c hc (Or.inl e)⟩
      · rw [e]
        rw [e, hr] at hr'
        cases hr'
        refine ⟨rn, fun c hc _ => ?_⟩
        exact (i8 k r hr (Or.inr ⟨rfl, by omega⟩)).2 c hc (Or.inr (by omega))
    · rw [i7] at y
      have jl : j < tb.2.1.length := Nat.lt_of_not_le fun z => y ((nI_leI (by omega) (by omega)).mpr z)
      obtain ⟨m', rfl⟩ : ∃ m', m = m' + 1 := ⟨m - 1, by omega⟩
      have ixk : ixn (nI k) = k := ixn_nI (by omega)
      have ixj : ixn (nI j) = j := ixn_nI (by omega)
      refine ⟨rn, by rw [rk.2.2.1]; exact jin_nI (by omega) (by decide), ku1.1.1.1, ku1.1.2.1.1, by rw [ku1.1.2.1.2]; exact jin_nI kl (by decide), ?_⟩
      rw [ixk, ixj]
      have cw := (rk.2.2.2 j (by omega)).1
      refine ⟨ru, by rw [ruw.2.2.1]; exact jin_nI (by omega) (by decide), cw.1, JW.up (n := 9) (fun y => useR0 (k_cCopy (d := y) cw (cu j jl) i4.tx) ?_) hd⟩
      rintro v h2 hI2 hle ⟨rfl, c1, c2⟩
      have tf := TF.cel hI1 hI2 hle i4 i3 i2 kl (by omega : j < 10) rn c2 c1.1
      have e5 := tf.2.2.1
      have efr : ∀ F q, F ≠ 64 → F ≠ 67 → jfr h2 F q = jfr h1 F q := c2.2.2.2.2.2.2.2
      have k140 : jkd h1 (jfr h1 45 t) = 140 := hI1.ref (F := 45) (by decide +kernel) i2.2.1.1
      have sm : ∀ q, q ≤ jsz h1 → jkd h1 q ≠ 0 → jkd h1 q ≠ 96 → jkd h1 q ≠ 144 → same h1 h2 q := fun q q1 q2 q3 q4 => c2.1 q q1 (by
        rintro (z | z)
        · rw [z] at q3; exact q3 (rk.2.2.2 j (by omega)).2
        · rcases cw.2.2.2.2 with w | w
          · have := (hI1.1 q q2).1
            omega
          · rw [← z] at w; exact q4 w.1)
      have s0 := sm t (hI1.lt (by rw [i2.1.2]; decide)) (by rw [i2.1.2]; decide) (by rw [i2.1.2]; decide) (by rw [i2.1.2]; decide)
      have sR := sm _ (hI1.refl (F := 45) (r := t)) (by omega) (by omega) (by omega)
      have srow : ∀ k', k' < 100 → jar h1 (jfr h1 45 t) k' ≠ 0 → same h1 h2 (jar h1 (jfr h1 45 t) k') := fun k' hk' hn => by
        have := (i2.2.2 k' hk').resolve_left hn
        exact sm _ hI1.arl (by rw [this.2.1]; decide) (by rw [this.2.1]; decide) (by rw [this.2.1]; decide)
      have er : jar h2 (jfr h2 45 t) k = jar h1 (jfr h1 45 t) k := by rw [e5, sR.ar]
      rw [nI_1, ← er]
      refine w_tcpR hI ku ne hr hd hK m' (j + 1) h2 (by omega) hI2 ⟨i1.tr tf, tf.2.2.2.2.1 i2, tf.2.2.2.1 i3, tf.1.2.2.2 i4, ⟨by rw [s0.fr]; exact tf.1.str hI1 i5 ⟨rfl, rfl, rfl, rfl⟩, by rw [s0.fr]; exact i6.kf tf.1 hI1 ⟨rfl, rfl⟩ ⟨rfl, rfl, rfl, rfl⟩, by rw [s0.fi]; exact i7⟩, fun k' r' hr' hk' => ?_⟩ (by rw [er]; exact rn)
      have kl' : k' < 100 := by
        have := (List.getElem?_eq_some_iff.mp hr').1
        have := ku.2.2.2.2.1.2
        omega
      have rn' : jar h1 (jfr h1 45 t) k' ≠ 0 := by
        rcases hk' with z | z
        · exact (i8 k' r' hr' (Or.inl z)).1
        · rw [z.1]; exact rn
      refine ⟨by rw [e5, sR.ar]; exact rn', fun c hc hcj => ?_⟩
      have et : tce h2 t k' c = tce h1 t k' c := by
        unfold tce
        rw [e5, sR.ar, (srow k' kl' rn').ar]
      rw [et]
      by_cases z : k' = k ∧ c = j
      · obtain ⟨z1, z2⟩ := z
        rw [z1, z2]
        rw [z1, hr] at hr'
        cases hr'
        exact c1
      · have old : Cel D h1 (tce h1 t k' c) (r'.getD c vNull) := by
          rcases (show k' < k ∨ (k' = k ∧ c < j) by omega) with y | y
          · exact (i8 k' r' hr' (Or.inl y)).2 c hc (Or.inl y)
          · exact (i8 k' r' hr' (Or.inr ⟨y.1, by omega⟩)).2 c hc (Or.inr y.2)
        exact old.other hI1 i4.tx c2 (tcell_ne hI1 i2 i3 kl' kl (by omega) (by omega) rn' rn z) cw
theorem w_tcpL {Q : JO → JH → Prop} (hI : JInv D h) (ku : TabR D h u tb) (ne : u ≠ t) (hd : 9 ≤ d) (hQ : ∀ h2, JInv D h2 → CpI D h t tb tb.2.2.length 0 h2 → Q (.inl none) (wfi h2 46 t (nI tb.2.2.length))) :
    ∀ (m k : Nat) (h1 : JH), k + m = tb.2.2.length → JInv D h1 → CpI D h t tb k 0 h1 → L_X5_copy_18 D d Q (m + 1) t u (nI k) h1
  | m, k, h1, hkm, hI1, I => by
    obtain ⟨i1, i2, i3, i4, ⟨i5, i6, i7⟩, i8⟩ := I
    have ku1 : TabR D h1 u tb := ku.of (i1.2.1 u ne ku.1) i1.1 hI
    have l100 := ku.2.2.2.2.1.2
    refine ⟨ku1.1.1.1, fun y => ⟨i2.1.1, ?_⟩, fun y => ⟨i2.1.1, ?_⟩⟩
    · rw [ku1.2.2.2.2.1.1] at y
      have y := (nI_leI (by omega) (by omega)).mp y
      rintro h2 rfl
      rw [ku1.2.2.2.2.1.1]
      have : k = tb.2.2.length := by omega
      subst this
      exact hQ h1 hI1 ⟨i1, i2, i3, i4, ⟨i5, i6, i7⟩, i8⟩
    · rw [ku1.2.2.2.2.1.1] at y
      have kl : k < tb.2.2.length := Nat.lt_of_not_le fun z => y ((nI_leI (by omega) (by omega)).mpr z)
      obtain ⟨m', rfl⟩ : ∃ m', m = m' + 1 := ⟨m - 1, by omega⟩
      have hr : tb.2.2[k]? = some tb.2.2[k] := List.getElem?_eq_getElem kl
      refine useR0 (w_rowM i2 i3 i4 (by omega) (by omega)) ?_
      rintro v h2 hI2 hle ⟨rfl, vn, tf, raf⟩
      have e5 := tf.2.2.1
      have k140 : jkd h1 (jfr h1 45 t) = 140 := hI1.ref (F := 45) (by decide +kernel) i2.2.1.1
      have nk : ∀ q, q ≤ jsz h1 → jkd h1 q ≠ 140 → same h1 h2 q := fun q q1 q2 => raf.1 q q1 fun z => q2 (by rw [z]; exact k140)
      have s0 := nk t (hI1.lt (by rw [i2.1.2]; decide)) (by rw [i2.1.2]; decide)
      rw [← e5] at vn ⊢
      refine ⟨tb.2.1.length + 1, w_tcpR hI ku ne hr hd (fun h3 hI3 J => ?_) _ 0 h2 (by omega) hI2 ⟨i1.tr tf, tf.2.2.2.2.1 i2, tf.2.2.2.1 i3, tf.1.2.2.2 i4, ⟨by rw [s0.fr]; exact tf.1.str hI1 i5 ⟨rfl, rfl, rfl, rfl⟩, by rw [s0.fr]; exact i6.kf tf.1 hI1 ⟨rfl, rfl⟩ ⟨rfl, rfl, rfl, rfl⟩, by rw [s0.fi]; exact i7⟩, fun k' r' hr' hk' => ?_⟩ vn⟩
      · rw [nI_1]
        exact w_tcpL hI ku ne hd hQ m' (k + 1) h3 (by omega) hI3 J
      · have z : k' < k := by omega
        have kl' : k' < 100 := by omega
        obtain ⟨a, b⟩ := i8 k' r' hr' (Or.inl z)
        have ra := (i2.2.2 k' kl').resolve_left a
        have er : jar h2 (jfr h2 45 t) k' = jar h1 (jfr h1 45 t) k' := by rw [e5]; exact raf.2 k' (Or.inl (by omega))
        refine ⟨by rw [er]; exact a, fun c hc _ => ?_⟩
        have w10 := i6.2.2.2.1
        have cu : CelW D h1 (tce h1 t k' c) ∧ jkd h1 (tce h1 t k' c) = 96 := ra.2.2.2 c (by omega)
        have et : tce h2 t k' c = tce h1 t k' c := by
          unfold tce
          rw [er, (nk _ hI1.arl (by rw [ra.2.1]; decide)).ar]
        rw [et]
        exact (b c hc (Or.inl z)).of (nk _ hI1.arl (by rw [cu.2]; decide)) fun z => nk _ hI1.refl (by rw [(cu.1.2.2.2.2.resolve_left z).1]; decide)
theorem w_tcopy (tw : TabW D h t) (ku : TabR D h u tb) (ne : u ≠ t) (ot : OT h) (ow : OW h) (hd : 10 ≤ d) : cX5_copy D d t u h (pV D h (fun h' => TF D t h h' ∧ TabR D h' t tb) no) := by
  obtain ⟨e, rfl, he⟩ := dsucc hd
  refine JW.inv fun hI => t_X5_copy ⟨ku.1.1.1, tw.1.1, useV0 (w_define hI tw (by omega)) ?_⟩
  rintro h1 hI1 hle ⟨tf, d1, d2, d3, d4, d5⟩
  have st : StR h1 (jfr h 42 u) tb.1 := tf.1.str hI ku.2.1 ⟨rfl, rfl, rfl, rfl⟩
  have cs : ColsR D h1 (jfr h 43 u) tb.2.1 := ku.2.2.1.kf tf.1 hI ⟨rfl, rfl⟩ ⟨rfl, rfl, rfl, rfl⟩
  refine ⟨tb.2.2.length + 1, w_tcpL hI ku ne (by omega) (fun h2 hI2 J => ?_) _ 0 h1 (by omega) hI1 ⟨tf, tf.2.2.2.2.1 tw, tf.2.2.2.1 ot, tf.1.2.2.2 ow, ⟨by rw [d1]; exact st, by rw [d2]; exact cs, by rw [d3]; exact ku.2.2.2.1⟩, fun k' r' _ hk' => by omega⟩⟩
  obtain ⟨i1, i2, i3, i4, ⟨i5, i6, i7⟩, i8⟩ := J
  have tf2 : TF D t h2 (wfi h2 46 t (nI tb.2.2.length)) := TF.fi hI2 i2.1.2
  refine endV fun hI3 _ => ⟨i1.tr tf2, tf2.2.2.2.2.1 i2, ?_, ?_, ?_, ⟨by rw [jfi_wfi, if_pos ⟨rfl, rfl⟩], ku.2.2.2.2.1.2⟩, fun k' r' hr' => ?_⟩
  · exact tf2.1.str hI2 i5 ⟨rfl, rfl, rfl, rfl⟩
  · exact i6.kf tf2.1 hI2 ⟨rfl, rfl⟩ ⟨rfl, rfl, rfl, rfl⟩
  · rw [jfi_wfi, if_neg (by omega)]; exact i7
  · have kl := (List.getElem?_eq_some_iff.mp hr').1
    obtain ⟨a, b⟩ := i8 k' r' hr' (Or.inl kl)
    refine ⟨a, fun c hc => ?_⟩
    have cc := b c hc (Or.inl kl)
    have kk := cc.1.kd
    refine cc.of (same_wfi fun z => ?_) fun z => same_wfi fun y => ?_
    · rw [z, i2.1.2] at kk; omega
    · have := (cc.1.2.2.2.2.resolve_left z).1
      rw [y, i2.1.2] at this
      omega
end
