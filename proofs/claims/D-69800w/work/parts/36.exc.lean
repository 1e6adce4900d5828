/-! constructors without arguments of exceptions -/
def jexC (C : String) : List Cond := [.selects C Bundle.tFill0 Bundle.tFill0, .selects C Bundle.tFill Bundle.tFill, .lays C Bundle.tN "cause" "Ljava/lang/Throwable;", .lays C Bundle.tN "stackTrace" Bundle.steD, .lays C Bundle.tN "suppressedExceptions" Bundle.listD, .lays C Bundle.tN "detailMessage" "Ljava/lang/String;", .lays C Bundle.tN "backtrace" "Ljava/lang/Object;"]
theorem jexC_mem {C : String} {q : List (Nat × Nat)} (h : (((jexC C).zip q).all fun z => jchk z.2 z.1) = true) (hl : q.length = 7) : ∀ w ∈ jexC C, w ∈ lw_all := by
  intro w hw
  have hin : w ∈ lw_tbl := by
    obtain ⟨i, hi⟩ := List.getElem?_of_mem hw
    have hlt : i < 7 := (List.getElem?_eq_some_iff.mp hi).1
    have hz : ((jexC C).zip q)[i]? = some (w, q[i]) := by
      rw [List.getElem?_zip_eq_some]
      exact ⟨hi, List.getElem?_eq_getElem (by omega)⟩
    exact jchk_mem (List.all_eq_true.mp h _ (List.mem_of_getElem? hz))
  refine lw_g hin ?_
  simp only [jexC, List.mem_cons, List.not_mem_nil, or_false] at hw
  rcases hw with rfl | rfl | rfl | rfl | rfl | rfl | rfl <;> rfl
def jthp : List (Nat × Nat) := [(1, 9), (3, 40), (3, 49), (3, 56), (3, 59), (3, 61), (3, 41), (3, 42), (1, 81), (1, 82), (3, 43), (3, 48), (3, 57), (3, 76), (3, 30), (3, 77), (3, 32), (3, 78), (3, 34), (3, 44), (3, 45), (3, 46), (3, 47), (3, 36)]
theorem jth_chk : ((Bundle.throwableAtoms.zip jthp).all fun z => jchk z.2 z.1) = true := by decide +kernel
theorem jth_good : (Bundle.throwableAtoms.all fun w => goodWord w || (match w with | .laysStatic .. => true | _ => false)) = true := by decide +kernel
theorem jth_mem {w : Cond} (hw : w ∈ Bundle.throwableAtoms) : w ∈ lw_tbl := by
  obtain ⟨i, hi⟩ := List.getElem?_of_mem hw
  have hlt : i < 24 := (List.getElem?_eq_some_iff.mp hi).1
  have hz : (Bundle.throwableAtoms.zip jthp)[i]? = some (w, jthp[i]'hlt) := by
    rw [List.getElem?_zip_eq_some]
    exact ⟨hi, List.getElem?_eq_getElem hlt⟩
  exact jchk_mem (List.all_eq_true.mp jth_chk _ (List.mem_of_getElem? hz))
theorem jlinks_vm {T : ThrowableC} {pl : Platform} {s u : State} (L : T.Links pl (u.setVm s.vm)) : T.Links pl s := { owns := L.owns, noFinalization := L.noFinalization, cls := L.cls, name := L.name, boot := L.boot, notInterface := L.notInterface, initialized := L.initialized, statics := L.statics, fillAt := L.fillAt, fillCode := L.fillCode, fillBytes := L.fillBytes, fillLocals := L.fillLocals, fillLocks := L.fillLocks, fillStatic := L.fillStatic, fillAbstract := L.fillAbstract, fillReturns := L.fillReturns, fillParams := L.fillParams, fill0At := L.fill0At, fill0Name := L.fill0Name, fill0Desc := L.fill0Desc, fill0Params := L.fill0Params, fill0Static := L.fill0Static, fill0Native := L.fill0Native, fill0Code := L.fill0Code, fill0Locks := L.fill0Locks, fill0Abstract := L.fill0Abstract, stackInstance := L.stackInstance, stackNotFinal := L.stackNotFinal, unassignedStatic := L.unassignedStatic, objClass := L.objClass, objClassName := L.objClassName, objMethod := L.objMethod, objName := L.objName, objStatic := L.objStatic, objAbstract := L.objAbstract, objFound := L.objFound, objParams := L.objParams, objCode := L.objCode, objBytes := L.objBytes, objLocks := L.objLocks, causeInstance := L.causeInstance, causeNotFinal := L.causeNotFinal, sentinelStatic := L.sentinelStatic, suppInstance := L.suppInstance, suppNotFinal := L.suppNotFinal, msgInstance := L.msgInstance, msgNotFinal := L.msgNotFinal, stackApartSupp := L.stackApartSupp, file := L.file, mlink1 := L.mlink1, mright1 := L.mright1, pool1 := L.pool1, mlink27 := L.mlink27, mright27 := L.mright27, pool27 := L.pool27, mlink202 := L.mlink202, mright202 := L.mright202, pool202 := L.pool202, link7 := L.link7, right7 := L.right7, at7 := L.at7, link13 := L.link13, right13 := L.right13, at13 := L.at13, link17 := L.link17, right17 := L.right17, at17 := L.at17, link20 := L.link20, right20 := L.right20, at20 := L.at20, link24 := L.link24, right24 := L.right24, at24 := L.at24 }
theorem jt_xnm0 : ((List.range 226).all fun k => !(jexc k) || (fld k).all fun F => !(decide (fnm F = "cause") || (decide (fnm F = "stackTrace") || decide (fnm F = "suppressedExceptions")))) = true := by decide +kernel
theorem jt_xnm {k F : Nat} (hk : k < 226) (hx : jexc k = true) (hF : F ∈ fld k) : fnm F ≠ "cause" ∧ fnm F ≠ "stackTrace" ∧ fnm F ≠ "suppressedExceptions" := by
  have h := List.all_eq_true.mp jt_xnm0 k (List.mem_range.mpr hk)
  rw [hx] at h
  have h := List.all_eq_true.mp h F hF
  simpa using h
section JEx
variable {D : JD} {d : Nat} {M M' : JM} {pc pc' : Nat} {ls ls' : List (Option JV)} {st st' : List JV} {h h1 : JH} {Q : JO → JH → Prop}
theorem jexc_run {p : Program} {l : Launch} {e : Env} {R : Room} {s : State} {m : MethodId} {args : Array Value} {below : List Frame} {meth : Method} {c : Code} {W : State} {locs : List Loc} {cells slots : Nat} {g : JFrame} {idx a k : Nat} {cls : String} {names : List String} {rest : List Value} {cell : Cell}
    (X : Stand p l e R s m args below meth c W locs cells slots) (hF : JFr D M l p s m meth c) (hR : JRl D h W.heap) (hI : JInv D h) (hk : jkd h (a + 1) = k) (hx : jexc k = true) (hj : job_ k = true) (hw : wrt k = true)
    (hcls : Bundle.fit cls = true) (hnames : ∀ n ∈ names, Bundle.fit n = true) (hl : Cond.methodLink (jmY M).cls idx (Bundle.init0 cls) ∈ lw_all) (hC : ∀ w ∈ jexC (jcn k), w ∈ lw_all) (hch : ∀ w ∈ Bundle.chain0Atoms cls names, w ∈ lw_tbl)
    (hchg : (Bundle.chain0Atoms cls names).all (fun w => goodWord w || (match w with | .declares _ => true | _ => false)) = true)
    (hcell : W.heap[a]? = some cell) (hfre : ∃ kX : Class, (jd0 D).vm.classes[jck D k]? = some kX ∧ cell = { cls := jck D k, slots := kX.instanceTypes.map defaultValue, vm := .none })
    (hg : g.method = m) (hsize : g.locals.size = c.maxLocals) (hstack : g.stack = .ref a :: rest) (hd : decode c.code g.pc = .ok (.invokespecial idx, 3))
    (hRframes : names.length + 3 < R.frames) (hRlocals : 2 * g.monitorRoom + (rest.map fun v => v.category).sum + (13 * (names.length + 1) + 41) ≤ R.locals) :
    ∃ (vm' : Vm) (cell' : Cell) (L : List Loc), Stand p l e R s m args below meth c ((W.setVm vm').setCell a cell') (locs ++ L) cells slots ∧ (∀ q ∈ L, q.base = a) ∧ cell'.cls = cell.cls ∧ cell'.vm = .none ∧ (∀ F ∈ fld k, cell'.slots[jsl D F]? = cell.slots[jsl D F]?) ∧
      ∀ target, Steps p.tables e below (((W.setVm vm').setCell a cell').setTop { g with pc := g.pc + 3, stack := rest }) target → Steps p.tables e below (W.setTop g) target := by
  have howns : e.platform.frameOwnsMonitors = true := by rw [X.admits.platform]
  have hfin : e.platform.finalization = false := by rw [X.admits.platform]
  have hpl : e.platform.magicAccessors = ({} : Platform).magicAccessors := by rw [X.admits.platform]
  have htr : e.platform.stackTraces = false := by rw [X.admits.platform]; exact hF.2.2.2.2.2.2.2.2.2.2.2
  have hk96 := job_lt hj
  obtain ⟨b0, hb0, hnar⟩ := hF.2.1.1
  have hat : ∀ w ∈ Bundle.throwableAtoms, w.before args ((jd0 D).setVm s.vm) = true := by
    intro w hw
    have hin := jth_mem hw
    have hgd := List.all_eq_true.mp jth_good w hw
    rw [Bool.or_eq_true] at hgd
    rcases hgd with z | z
    · have hs := hF.word (lw_g hin z) args
      rcases good_of_word z with y | ⟨ty, rfl⟩
      · rw [Bool.and_eq_true] at y
        exact va_tabs y.1 (rfl : s.vm = ((jd0 D).setVm s.vm).vm) hs
      · simp [Bundle.throwableAtoms] at hw
    · cases w <;> first | (cases z; done) | skip
      rename_i O f dd
      exact Cond.laysStatic_setVm (vm' := s.vm) hF.alike (hb0 _ hin)
  obtain ⟨T, Z, L0, LZ, Y⟩ := ThrowableC.of_atoms (args := args) howns hfin hpl hat
  have L : T.Links e.platform s := jlinks_vm L0
  have hchw : ∀ w ∈ Bundle.chain0Atoms cls names, w.before args s = true := by
    intro w hw
    have hin := hch w hw
    have hgd := List.all_eq_true.mp hchg w hw
    rw [Bool.or_eq_true] at hgd
    rcases hgd with z | z
    · exact hF.word (lw_g hin z) args
    · cases w <;> first | (cases z; done) | skip
      exact va_Nw.use rfl (hF.decl hin)
  obtain ⟨P1, Ps, hlen, L1, hL, hP1m, hlink1, hlink⟩ := Bundle.chain0 (args := args) (s := s) hpl (show s.methodNamed? (Bundle.init0 Bundle.tN) = some _ from Y.init0) names cls hcls hnames hchw
  obtain ⟨hfc, kS, hkS, hord⟩ := hF.cls hj
  obtain ⟨kX, hkX, hcl⟩ := hfre
  obtain ⟨kS', hkS', he⟩ := hF.alike.2.2 _ _ hkX
  cases hkS.symm.trans hkS'
  have hcl2 : cell = freshCell (jck D k) kS := by rw [hcl, he]
  have cw : ∀ w ∈ jexC (jcn k), w.before args s = true := fun w hw => hF.word (hC w hw) args
  have hsel0 : selectMethod e.platform s.vm (jck D k) T.fill0 = .method T.fill0 := by
    obtain ⟨c2, r2, m2, q1, q2, q3, q4, -⟩ := Cond.selects_spec (cw (.selects (jcn k) Bundle.tFill0 Bundle.tFill0) (by simp [jexC]))
    cases Option.some.inj (q1.symm.trans hfc)
    cases Option.some.inj (q2.symm.trans (State.methodFound?_of_named (show s.methodNamed? _ = _ from Y.fill0) (by decide)))
    cases Option.some.inj (q3.symm.trans (show s.methodNamed? _ = _ from Y.fill0))
    rw [Launch.admits_selectMethod X.admits]; exact q4
  have hselF : selectMethod e.platform s.vm (jck D k) T.fill = .method T.fill := by
    obtain ⟨c2, r2, m2, q1, q2, q3, q4, -⟩ := Cond.selects_spec (cw (.selects (jcn k) Bundle.tFill Bundle.tFill) (by simp [jexC]))
    cases Option.some.inj (q1.symm.trans hfc)
    cases Option.some.inj (q2.symm.trans (State.methodFound?_of_named (show s.methodNamed? _ = _ from Y.fill) (by decide)))
    cases Option.some.inj (q3.symm.trans (show s.methodNamed? _ = _ from Y.fill))
    rw [Launch.admits_selectMethod X.admits]; exact q4
  obtain ⟨cellS, hcS0, hiss⟩ := Y.statics
  have hcS0 : (jd0 D).heap[T.aS]? = some cellS := hcS0
  have haS : T.aS < jbs D := (Array.getElem?_eq_some_iff.mp hcS0).1
  have hcellS : W.heap[T.aS]? = some cellS := by rw [hR.2.1 _ haS]; exact hcS0
  have hba : jbs D < a + 1 := hI.2.1 (a + 1) (by rw [hk]; exact hw)
  have hneS : T.aS ≠ a := Nat.ne_of_lt (Nat.lt_of_lt_of_le haS (Nat.le_of_lt_succ hba))
  have hknownS : cellS.vm ≠ .unknown := fun hu => by rw [hu] at hiss; cases hiss
  have hstat : ∀ {n dd : String} {i : Nat} {f : Field}, s.fieldFound? Bundle.tN n dd = some (T.cT, T.kT, i, f) → f.isStatic = true → (Cond.isRef (.static Bundle.tN n dd)) ∈ flatC narrow_1 → ∃ u : RefV, cellS.slots[f.slot]? = some u.v := by
    intro n dd i f hf hst hn
    obtain ⟨k0, hk0, he0⟩ := State.fieldFound?_setVm (s := s) (vm' := (jd0 D).vm) hF.alike.symm hf
    have hk0 : (jd0 D).fieldFound? Bundle.tN n dd = some (T.cT, k0, i, f) := by simpa only [State.fieldFound?, State.vm_setVm] using hk0
    exact Cond.staticRefV hk0 hst (by rw [he0]; exact L.statics) hcS0 hiss (flat_of_before _ hnar _ hn)
  obtain ⟨u0, hu0⟩ := hstat (show s.fieldFound? _ _ _ = _ from Y.unassigned) L.unassignedStatic (by decide +kernel)
  obtain ⟨sen, hsen⟩ := hstat (show s.fieldFound? _ _ _ = _ from Y.sentinel) L.sentinelStatic (by decide +kernel)
  have b1 : Cond.fieldLink Bundle.tN 198 Bundle.tN "backtrace" "Ljava/lang/Object;" ∈ lw_all := lw_g (jtb_mem (c := 3) (i := 39) rfl) rfl
  have b2 : Cond.lays Bundle.tN Bundle.tN "backtrace" "Ljava/lang/Object;" ∈ lw_all := lw_g (jtb_mem (c := 3) (i := 38) rfl) rfl
  obtain ⟨ci198, i198, fB, hk198, hg198, ha198, hsB, -, hnB, htB, hffB⟩ := Cond.ownField (t := .object "java/lang/Object") (show s.vm.findClass _ = _ from Y.found) L.cls (by decide +kernel) (hF.word b1 args) (hF.word b2 args) e.platform hpl
  have yc : s.fieldFound? Bundle.tN "cause" "Ljava/lang/Throwable;" = _ := Y.cause
  have ys : s.fieldFound? Bundle.tN "stackTrace" Bundle.steD = _ := Y.stack
  have yp : s.fieldFound? Bundle.tN "suppressedExceptions" Bundle.listD = _ := Y.supp
  have wC : (Cond.lays (jcn k) Bundle.tN "cause" "Ljava/lang/Throwable;").before args s = true := cw _ (by simp [jexC])
  have wS : (Cond.lays (jcn k) Bundle.tN "stackTrace" Bundle.steD).before args s = true := cw _ (by simp [jexC])
  have wP : (Cond.lays (jcn k) Bundle.tN "suppressedExceptions" Bundle.listD).before args s = true := cw _ (by simp [jexC])
  have wB : (Cond.lays (jcn k) Bundle.tN "backtrace" "Ljava/lang/Object;").before args s = true := cw _ (by simp [jexC])
  obtain ⟨tyC, dC, hdC, hdnC⟩ := Cond.laysAt hfc hkS yc wC
  obtain ⟨tyS, dS, hdS, hdnS⟩ := Cond.laysAt hfc hkS ys wS
  obtain ⟨tyP, dP, hdP, hdnP⟩ := Cond.laysAt hfc hkS yp wP
  obtain ⟨tyB, dB, hdB, hdnB⟩ := Cond.laysAt hfc hkS hffB wB
  have bC := Cond.laysApart hdB hdC hdnB hdnC (by rw [hnB, Y.causeName]; decide)
  have bS := Cond.laysApart hdB hdS hdnB hdnS (by rw [hnB, Y.stackName]; decide)
  have bP := Cond.laysApart hdB hdP hdnB hdnP (by rw [hnB, Y.suppName]; decide)
  have hskip : SkipFacts T e.platform s (fun u => u) u0 ((preparedCellV T.toThrowableT (freshCell (jck D k) kS) a u0 sen).withEntry W.cur) :=
    ⟨{ ci198 := ci198, i198 := i198, fBack := fB }, ⟨hk198, hg198, ha198, hsB⟩, by
      have := fresh_default (c := jck D k) tyB
      rw [htB] at this
      simpa [preparedCellV, Cell.setSlot, Cell.withEntry, Array.getElem?_setIfInBounds, bC, bS, bP, bC.symm, bS.symm, bP.symm, defaultValue] using this, fun _ _ => rfl⟩
  obtain ⟨tm, methC, cdC, kC, vm₁, hnC, -, -, -, -, -, -, -, hW₁, st1⟩ := Steps.initCold (tb := p.tables) (e := e) (below := below) (s := s) (U := W) X.here hF.1 X.warmed hpl hF.2.2.2.2.2.2.2.2.2.1 (t := Bundle.init0 cls) rfl rfl (Bundle.fit_spec hcls).2
    (hF.word hl args) (hchw (.instanceMethod (Bundle.init0 cls)) (by cases names <;> simp [Bundle.chain0Atoms, Bundle.passAtoms])) (bytes := Bundle.five) (maxL := 1) (hchw (.code (Bundle.init0 cls) Bundle.five 1 none) (by cases names <;> simp [Bundle.chain0Atoms, Bundle.passAtoms]))
    (f := g) hg (a := a) (rest := rest) hstack hd
  cases Option.some.inj (hnC.symm.trans hP1m)
  have X₁ := X.noted hW₁
  subst hcl2
  obtain ⟨vm₂, X₂, st2⟩ := X₁.ctorPlainOffV hF.1 (g := { g with stack := rest }) hg hsize T L Z LZ (P1 :: Ps)
    (fun P hP => by rcases List.mem_cons.mp hP with rfl | hP; exact L1; exact hL P hP) ⟨hlink1, hlink⟩ (u0 := u0) (sen := sen) (self := a) (cell := freshCell (jck D k) kS) (cellS := cellS)
    hcell (fun _ => by simp) (by simp) rfl rfl hsel0 hselF hcellS hneS hknownS hu0 hsen
    (Takes.of_laid hkS hord tyC (by rw [Y.causeType]; rfl)) (Takes.of_laid hkS hord tyS (by rw [Y.stackType]; exact fits_refV_array _ u0)) (Takes.of_laid hkS hord tyP (by rw [Y.suppType]; exact fits_refV_object _ sen)) Y.objLocals hskip htr [] hd
    (by simp only [List.length_cons, hlen]; omega) (by simp only [List.length_cons, hlen]; exact hRlocals)
  refine ⟨vm₂, _, _, X₂, ?_, rfl, rfl, ?_, fun target ht => st1 target fun acts => ?_⟩
  · intro q hq
    simp at hq
    rcases hq with rfl | rfl | rfl | rfl <;> rfl
  · intro F hFk
    have hFl := jt_fldlt hk96 hFk
    obtain ⟨cf, kf, fi, f, e1, e2, e3⟩ := hF.fnd hFl
    have hlay := hF.word (jt_lay hk96 hj hw hFk) args
    have hlay2 : (Cond.lays (jcn k) (fow F) (fnm F) (fds F)).before args s = true ∨ (Cond.laysFinal (jcn k) (fow F) (fnm F) (fds F)).before args s = true := by
      unfold jlw at hlay
      cases hff : ffn F with
      | true => rw [hff] at hlay; exact Or.inr hlay
      | false => rw [hff] at hlay; exact Or.inl hlay
    have hnm := (State.fieldFound?_type e1 (jt_ftg0 F hFl).2).1
    have n1 : fnm F ≠ "cause" ∧ fnm F ≠ "stackTrace" ∧ fnm F ≠ "suppressedExceptions" := jt_xnm hk96 hx hFk
    have c1 := u_apart hlay2 (Or.inl wC) e1 yc (by rw [hnm, Y.causeName]; exact n1.1)
    have c2 := u_apart hlay2 (Or.inl wS) e1 ys (by rw [hnm, Y.stackName]; exact n1.2.1)
    have c3 := u_apart hlay2 (Or.inl wP) e1 yp (by rw [hnm, Y.suppName]; exact n1.2.2)
    rw [← e3]
    simp only [preparedCellV, Cell.setSlot]
    rw [Array.getElem?_setIfInBounds_ne (Ne.symm c2), Array.getElem?_setIfInBounds_ne (Ne.symm c3), Array.getElem?_setIfInBounds_ne (Ne.symm c2), Array.getElem?_setIfInBounds_ne (Ne.symm c1)]
  · have := st2 target ht
    rw [doInvoke_state] at this ⊢
    exact this
theorem jfv_330 {F q r : Nat} {v : Int32} (hF : F ≠ 330) : jfv (wfi h 330 r v) F q = jfv h F q := by
  unfold jfv
  have e : jfi (wfi h 330 r v) F q = jfi h F q := if_neg (fun z => hF z.1)
  rw [e]; rfl
theorem jw_exc {idx t r k : Nat} {cls : String} {names : List String} (hd : jmT M pc = some (.invokespecial idx, 3)) (hkd : jkd h r = k) (hx : jexc k = true) (hraw : jfi h 330 r = 0) (h6 : 6 ≤ d) (hcat : Nat.ble ((st.map jct).sum) 34 = true) (hr : r ≠ 0)
    (hcls : Bundle.fit cls = true) (hnames : ∀ n ∈ names, Bundle.fit n = true) (hnl : Nat.ble names.length 2 = true) (hl : Cond.methodLink (jmY M).cls idx (Bundle.init0 cls) ∈ lw_all) (hC : ∀ w ∈ jexC (jcn k), w ∈ lw_all) (hch : ∀ w ∈ Bundle.chain0Atoms cls names, w ∈ lw_tbl)
    (hchg : (Bundle.chain0Atoms cls names).all (fun w => goodWord w || (match w with | .declares _ => true | _ => false)) = true)
    (k2 : JW D d M pc' ls st (wfi h 330 r 1) Q) (hp : pc + 3 = pc' := by rfl) : JW D d M pc ls (vR t r :: st) h Q := by
  subst hp
  have hcat := Nat.ble_eq.mp hcat
  have hnl := Nat.ble_eq.mp hnl
  have hj : job_ k = true := by rcases jexc_cases hx with rfl | rfl | rfl | rfl | rfl | rfl <;> rfl
  have hw : wrt k = true := by rcases jexc_cases hx with rfl | rfl | rfl | rfl | rfl | rfl <;> rfl
  have hk96 := job_lt hj
  have hle : jle h (wfi h 330 r 1) := ⟨Nat.le_refl _, Nat.le_refl _, fun q _ => rfl⟩
  refine jw_step1 (fun hI hl hs => ?_) (fun p l e R s m args below meth c H locs c0 u0 Z lsA K hI hs hF hR hL g1 g2 g3 g4 g5 g6 kk => ?_) k2
  · exact ⟨hI.wfi (hI.2.1 r (by rw [hkd]; exact hw)) (hI.1 r (by rw [hkd]; exact fun z => by rw [z] at hx; cases hx)).2.1, hle, fun v hv => (hl v hv).le hle, fun v hv => (hs v (List.mem_cons_of_mem _ hv)).le hle⟩
  · obtain ⟨a, rfl⟩ : ∃ a, r = a + 1 := ⟨r - 1, by omega⟩
    have hk0 : jkd h (a + 1) ≠ 0 := by rw [hkd]; exact fun z => by rw [z] at hx; cases hx
    obtain ⟨q, cell, e0, hc, hcell⟩ := jcell hR hk0 hr
    obtain rfl : a = q := by omega
    have hba : jbs D < a + 1 := hI.2.1 (a + 1) (by rw [hkd]; exact hw)
    intro T hT X
    subst hT
    have hfre := (hcell.2.2.2.1 (by rw [hkd]; exact hw)).2 (by rw [hkd]; exact hx) hraw
    rw [hkd] at hfre
    obtain ⟨vm', cell', L, X', hLa, y1, y2, y3, hst⟩ := jexc_run (g := F0 m pc lsA (.ref a :: st.map vv)) X hF hR hI hkd hx hj hw hcls hnames hl hC hch hchg hc hfre rfl (hL.1.trans hF.2.2.2.2.2.1.symm) rfl (by rw [hF.2.2.2.2.1]; exact hF.2.2.2.1.1 _ _ hd) (by omega) (by
      rw [jcat_sum]
      show 2 * 0 + _ + _ ≤ _
      omega)
    have hl2 : a < T.heap.size := (Array.getElem?_eq_some_iff.mp hc).1
    have e1 : (T.heap.setIfInBounds a cell')[a]? = some cell' := by simp [Array.getElem?_setIfInBounds, hl2]
    have e3 : ∀ b, b ≠ a → (T.heap.setIfInBounds a cell')[b]? = T.heap[b]? := fun b hb => by simp [Array.getElem?_setIfInBounds, Ne.symm hb]
    have hR1 : JRl D (wfi h 330 (a + 1) 1) (T.heap.setIfInBounds a cell') := by
      refine ⟨by simp; exact hR.1, fun b hb => ?_, fun b hb => ?_⟩
      · rw [e3 b (by omega)]; exact hR.2.1 b hb
      · by_cases hba : b = a
        · subst hba
          obtain ⟨c1, c2, c3, c4, c5, c6⟩ := hcell
          have hn1 : jfi (wfi h 330 (b + 1) 1) 330 (b + 1) = 1 := if_pos ⟨rfl, rfl⟩
          refine ⟨_, e1, y1.trans c1, (by rw [y2]; exact fun z => (by cases z)), (by rw [y2]; rfl), fun z => ⟨y2, fun w1 w2 => (by rw [hn1] at w2; cases w2)⟩, fun z F hFk => ?_, fun z => ?_⟩
          · have hFk : F ∈ fld k := by rw [← hkd]; exact hFk
            have hFl := jt_fldlt hk96 hFk
            rw [y3 F hFk, jfv_330 (by omega)]
            exact c5 z F (by rw [hkd]; exact hFk)
          · have z : aty (jkd h (b + 1)) ≠ none := z
            rw [hkd] at z
            exact absurd (jexc_aty hx) z
        · obtain ⟨cl, d1, d2⟩ := hR.2.2 b hb
          have hne : b + 1 ≠ a + 1 := fun z => hba (by omega)
          obtain ⟨c1, c2, c3, c4, c5, c6⟩ := d2
          refine ⟨cl, by rw [e3 b hba]; exact d1, c1, c2, c3, fun z => ⟨(c4 z).1, jfre.of (h := h) rfl (show (if 330 = 330 ∧ b + 1 = a + 1 then (1 : Int32) else jfi h 330 (b + 1)) = jfi h 330 (b + 1) from if_neg (fun w => hne w.2)) (c4 z).2⟩, fun z F hFk => ?_, fun z => c6 z⟩
          have hkb : jkd h (b + 1) < 226 := by
            rcases Nat.lt_or_ge (jkd h (b + 1)) 226 with w | w
            · exact w
            · exfalso
              have hfe : fld (jkd h (b + 1)) = [] := by unfold fld; rw [Nat.ble_eq.mpr w]; rfl
              have hFk : F ∈ fld (jkd h (b + 1)) := hFk
              rw [hfe] at hFk; cases hFk
          rw [jfv_330 (by have := jt_fldlt hkb hFk; omega)]
          exact c5 z F hFk
    obtain ⟨t', t1, t2⟩ := kk lsA (T.heap.setIfInBounds a cell') _ hL hR1 (fun q hq => by
      rcases List.mem_append.mp hq with z | z
      · exact g5 q z
      · rw [hLa q z]; omega) (fun q hq1 hq2 => by
      obtain ⟨w1, w2⟩ := g6 q hq1 hq2
      refine ⟨w1, ?_⟩
      by_cases e : q = a
      · subst e; exact absurd w1 hk0
      · rw [e3 q e]; exact w2) _ rfl X'
    exact ⟨t', hst t' t1, t2⟩
end JEx
theorem jch_mem {cls : String} {names : List String} {q : List (Nat × Nat)} (h : (((Bundle.chain0Atoms cls names).zip q).all fun z => jchk z.2 z.1) = true) (hl : (Bundle.chain0Atoms cls names).length = q.length) : ∀ w ∈ Bundle.chain0Atoms cls names, w ∈ lw_tbl := by
  intro w hw
  obtain ⟨i, hi⟩ := List.getElem?_of_mem hw
  have hlt : i < q.length := by rw [← hl]; exact (List.getElem?_eq_some_iff.mp hi).1
  have hz : ((Bundle.chain0Atoms cls names).zip q)[i]? = some (w, q[i]) := by
    rw [List.getElem?_zip_eq_some]
    exact ⟨hi, List.getElem?_eq_getElem hlt⟩
  exact jchk_mem (List.all_eq_true.mp h _ (List.mem_of_getElem? hz))
theorem jexC_9 : ∀ w ∈ jexC (jcn 9), w ∈ lw_all := jexC_mem (q := [(3, 27), (3, 28), (3, 29), (3, 31), (3, 33), (3, 35), (3, 37)]) (by decide +kernel) rfl
theorem jch_9 : ∀ w ∈ Bundle.chain0Atoms "java/lang/RuntimeException" ["java/lang/Exception"], w ∈ lw_tbl := jch_mem (q := [(3, 66), (3, 67), (3, 68), (3, 69), (3, 23), (3, 69), (3, 70), (3, 71), (3, 41), (3, 25)]) (by decide +kernel) rfl
theorem jw_exc9 {D : JD} {d : Nat} {M : JM} {pc pc' : Nat} {ls : List (Option JV)} {st : List JV} {h : JH} {Q : JO → JH → Prop} {idx t r : Nat} (hd : jmT M pc = some (.invokespecial idx, 3)) (hkd : jkd h r = 9) (hraw : jfi h 330 r = 0) (h6 : 6 ≤ d) (hcat : Nat.ble ((st.map jct).sum) 34 = true) (hr : r ≠ 0) (hl : Cond.methodLink (jmY M).cls idx (Bundle.init0 "java/lang/RuntimeException") ∈ lw_all) (k2 : JW D d M pc' ls st (wfi h 330 r 1) Q) (hp : pc + 3 = pc' := by rfl) : JW D d M pc ls (vR t r :: st) h Q :=
  jw_exc (k := 9) (names := ["java/lang/Exception"]) hd hkd rfl hraw h6 hcat hr (by decide +kernel) (by decide +kernel) rfl hl jexC_9 jch_9 (by decide +kernel) k2 hp
theorem jexC_13 : ∀ w ∈ jexC (jcn 13), w ∈ lw_all := jexC_mem (q := [(4, 53), (3, 53), (4, 54), (4, 55), (4, 56), (4, 57), (4, 58)]) (by decide +kernel) rfl
theorem jch_13 : ∀ w ∈ Bundle.chain0Atoms "java/lang/IllegalArgumentException" ["java/lang/RuntimeException", "java/lang/Exception"], w ∈ lw_tbl := jch_mem (q := [(14, 223), (14, 224), (14, 225), (3, 66), (3, 21), (3, 66), (3, 67), (3, 68), (3, 69), (3, 23), (3, 69), (3, 70), (3, 71), (3, 41), (3, 25)]) (by decide +kernel) rfl
theorem jw_exc13 {D : JD} {d : Nat} {M : JM} {pc pc' : Nat} {ls : List (Option JV)} {st : List JV} {h : JH} {Q : JO → JH → Prop} {idx t r : Nat} (hd : jmT M pc = some (.invokespecial idx, 3)) (hkd : jkd h r = 13) (hraw : jfi h 330 r = 0) (h6 : 6 ≤ d) (hcat : Nat.ble ((st.map jct).sum) 34 = true) (hr : r ≠ 0) (hl : Cond.methodLink (jmY M).cls idx (Bundle.init0 "java/lang/IllegalArgumentException") ∈ lw_all) (k2 : JW D d M pc' ls st (wfi h 330 r 1) Q) (hp : pc + 3 = pc' := by rfl) : JW D d M pc ls (vR t r :: st) h Q :=
  jw_exc (k := 13) (names := ["java/lang/RuntimeException", "java/lang/Exception"]) hd hkd rfl hraw h6 hcat hr (by decide +kernel) (by decide +kernel) rfl hl jexC_13 jch_13 (by decide +kernel) k2 hp
theorem jexC_39 : ∀ w ∈ jexC (jcn 39), w ∈ lw_all := jexC_mem (q := [(14, 201), (3, 55), (14, 202), (14, 203), (14, 204), (14, 205), (14, 206)]) (by decide +kernel) rfl
theorem jch_39 : ∀ w ∈ Bundle.chain0Atoms "java/lang/IndexOutOfBoundsException" ["java/lang/RuntimeException", "java/lang/Exception"], w ∈ lw_tbl := jch_mem (q := [(14, 208), (14, 209), (14, 210), (3, 66), (3, 21), (3, 66), (3, 67), (3, 68), (3, 69), (3, 23), (3, 69), (3, 70), (3, 71), (3, 41), (3, 25)]) (by decide +kernel) rfl
theorem jw_exc39 {D : JD} {d : Nat} {M : JM} {pc pc' : Nat} {ls : List (Option JV)} {st : List JV} {h : JH} {Q : JO → JH → Prop} {idx t r : Nat} (hd : jmT M pc = some (.invokespecial idx, 3)) (hkd : jkd h r = 39) (hraw : jfi h 330 r = 0) (h6 : 6 ≤ d) (hcat : Nat.ble ((st.map jct).sum) 34 = true) (hr : r ≠ 0) (hl : Cond.methodLink (jmY M).cls idx (Bundle.init0 "java/lang/IndexOutOfBoundsException") ∈ lw_all) (k2 : JW D d M pc' ls st (wfi h 330 r 1) Q) (hp : pc + 3 = pc' := by rfl) : JW D d M pc ls (vR t r :: st) h Q :=
  jw_exc (k := 39) (names := ["java/lang/RuntimeException", "java/lang/Exception"]) hd hkd rfl hraw h6 hcat hr (by decide +kernel) (by decide +kernel) rfl hl jexC_39 jch_39 (by decide +kernel) k2 hp
theorem jexC_40 : ∀ w ∈ jexC (jcn 40), w ∈ lw_all := jexC_mem (q := [(15, 1), (3, 54), (15, 2), (15, 3), (15, 4), (15, 5), (15, 6)]) (by decide +kernel) rfl
theorem jch_40 : ∀ w ∈ Bundle.chain0Atoms "java/lang/IllegalStateException" ["java/lang/RuntimeException", "java/lang/Exception"], w ∈ lw_tbl := jch_mem (q := [(15, 8), (15, 9), (15, 10), (3, 66), (3, 21), (3, 66), (3, 67), (3, 68), (3, 69), (3, 23), (3, 69), (3, 70), (3, 71), (3, 41), (3, 25)]) (by decide +kernel) rfl
theorem jw_exc40 {D : JD} {d : Nat} {M : JM} {pc pc' : Nat} {ls : List (Option JV)} {st : List JV} {h : JH} {Q : JO → JH → Prop} {idx t r : Nat} (hd : jmT M pc = some (.invokespecial idx, 3)) (hkd : jkd h r = 40) (hraw : jfi h 330 r = 0) (h6 : 6 ≤ d) (hcat : Nat.ble ((st.map jct).sum) 34 = true) (hr : r ≠ 0) (hl : Cond.methodLink (jmY M).cls idx (Bundle.init0 "java/lang/IllegalStateException") ∈ lw_all) (k2 : JW D d M pc' ls st (wfi h 330 r 1) Q) (hp : pc + 3 = pc' := by rfl) : JW D d M pc ls (vR t r :: st) h Q :=
  jw_exc (k := 40) (names := ["java/lang/RuntimeException", "java/lang/Exception"]) hd hkd rfl hraw h6 hcat hr (by decide +kernel) (by decide +kernel) rfl hl jexC_40 jch_40 (by decide +kernel) k2 hp
