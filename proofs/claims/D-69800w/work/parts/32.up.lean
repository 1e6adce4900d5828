/-! calls of methods that are inherited, overridden or abstract -/
def JUm (x : MethodName) (owner C : String) (M' : JM) : Prop :=
  Cond.sameMethod x.cls owner x.name x.desc ∈ lw_all ∧ (owner ≠ "java/lang/invoke/MethodHandle" ∧ owner ≠ "java/lang/invoke/VarHandle") ∧
  (Cond.declares ⟨owner, x.name, x.desc⟩ ∈ lw_tbl ∨ (Cond.instanceMethod ⟨owner, x.name, x.desc⟩ ∈ lw_all ∧ ∃ b m r, Cond.code ⟨owner, x.name, x.desc⟩ b m r ∈ lw_all)) ∧
  Cond.selects C x (jmY M') ∈ lw_all ∧ Cond.instanceMethod (jmY M') ∈ lw_all ∧ (parseMethodDescriptor x.desc).map (fun g => g.parameters.length + 1) = some (jmP M').length
section JUp
variable {D : JD} {d : Nat} {M M' : JM} {pc pc' : Nat} {ls ls' : List (Option JV)} {st st' : List JV} {h h1 : JH} {Q : JO → JH → Prop}
theorem JFr.decl {p : Program} {l : Launch} {s : State} {m : MethodId} {meth : Method} {c : Code} (hF : JFr D M l p s m meth c) {y : MethodName} (hd : Cond.declares y ∈ lw_tbl) : va_Nw (.declares y) s := by
  obtain ⟨b, hb, -⟩ := hF.2.1.1
  exact va_Nw.warmD hF.2.2.1 (va_Nw.of rfl (hb _ hd))
theorem jstp_up {idx t r : Nat} {x : MethodName} {owner C : String} {sa as : List JV} (hd : jmT M pc = some (.invokevirtual idx, 3)) (hl : Cond.methodLink (jmY M).cls idx x ∈ lw_all) (hU : JUm x owner C M') (hM : JMok M') (hr : r ≠ 0) (hk : JInv D h → jok h (vR t r) → job_ (jkd h r) = true ∧ jcn (jkd h r) = C) (hc : jchkT (jmP M') (vR t r :: sa) = true) (has : jret (jmP M') (vR t r :: sa) = as) : jstp D M M' pc ((vR t r :: sa).reverse ++ st) st as h := by
  intro p l e R s m args below meth c T locs cells slots lsA mk methk ck hF hm hI hs hR X
  obtain ⟨m1, m2, m3, m4, m5, m6, m7, m8, m9⟩ := hm
  obtain ⟨u1, u2, u3, u4, u5, u6⟩ := hU
  have hrv : jok h (vR t r) := hs _ (by simp)
  obtain ⟨b, cell, rfl, e1, e2, e3, e4, e5, e6⟩ := jrecv hI hrv hr hR
  obtain ⟨hj, hC⟩ := hk hI hrv
  obtain ⟨hfc, -⟩ := hF.cls hj
  rw [hC] at hfc
  have hd0 : va_Decl s ⟨owner, x.name, x.desc⟩ := by
    rcases u3 with z | ⟨z1, bb, mm, rr, z2⟩
    · exact va_Decl.abs (hF.decl z)
    · exact va_Decl.of (hF.word z1 args) (hF.word z2 args)
  obtain ⟨r0, rm, hn, hrm, hstR, hsigR⟩ := hd0
  obtain ⟨cn, ck', r1, hcn, hck, hni, hf, hn1⟩ := Cond.sameMethod_found (hF.word u1 args)
  cases hn.symm.trans hn1
  obtain ⟨mk', methM, hnamed, hmethM, -, habM⟩ := Cond.instanceMethod_spec (hF.word u5 args)
  cases m1.symm.trans hnamed
  cases m2.symm.trans hmethM
  obtain ⟨c2, r2, m2', q1, q2, q3, q4, kP, hkP, hkPi⟩ := Cond.selects_spec (hF.word u4 args)
  cases hfc.symm.trans q1
  cases hf.symm.trans q2
  cases m1.symm.trans q3
  have hselP : selectMethod e.platform s.vm cell.cls r0 = .method mk := by rw [Launch.admits_selectMethod X.admits, e3]; exact q4
  have hdec : decode c.code pc = .ok (.invokevirtual idx, 3) := by rw [hF.2.2.2.2.1]; exact hF.2.2.2.1.1 _ _ hd
  have hlen : (sa.map vv).length = rm.sig.parameters.length := by
    have := u6
    rw [show parseMethodDescriptor x.desc = some rm.sig from hsigR] at this
    simp at this
    have h2 := jchkT_len _ _ hc
    simp at h2 ⊢
    omega
  have hstk : (F0 m pc lsA (((vR t (b + 1) :: sa).reverse ++ st).map vv)).stack = (sa.map vv).reverse ++ .ref b :: st.map vv := by simp [vv, rv]
  have hav : (as.map vv) = .ref b :: sa.map vv := by rw [← has, jret_vv]; rfl
  have hobj : ∀ c, cell.vm ≠ .statics c := fun z hz => by rw [hz] at e2; cases e2
  obtain ⟨vm', X', hstep⟩ := X.invokevirtualUp hF.1 hF.2.2.2.2.2.2.2.2.2.1 (hF.word hl args) (hF.word u1 args) u2 hn hrm hstR (a := b) (cell := cell) e1 hobj hselP m2 habM hkP hkPi (g := F0 m pc lsA (((vR t (b + 1) :: sa).reverse ++ st).map vv)) rfl (argsL := sa.map vv) (rest := st.map vv) hlen hstk hdec
  exact ⟨vm', X', ⟨_, hdec⟩, fun tg htg => hstep tg fun acts => by rw [← hav]; exact htg acts⟩
/-- values with other tags -/
theorem jasc_congr {n : Nat} {l l' : List (Option JV)} (e : l'.map (Option.map vv) = l.map (Option.map vv)) : jasc n l' = jasc n l := by
  induction l generalizing n l' with
  | nil => cases l' with
    | nil => rfl
    | cons a l' => simp at e
  | cons a l ih =>
    cases l' with
    | nil => simp at e
    | cons b l' =>
      simp only [List.map_cons, List.cons.injEq] at e
      cases a with
      | none => cases b with
        | none => exact ih e.2
        | some b => simp at e
      | some a => cases b with
        | none => simp at e
        | some b =>
          simp only [Option.map_some, Option.some.injEq] at e
          unfold jasc
          rw [e.1, ih e.2]
theorem jw_tag (es : st'.map vv = st.map vv) (el : ls'.map (Option.map vv) = ls.map (Option.map vv)) (hok : JInv D h → (∀ v, some v ∈ ls → jok h v) → (∀ v ∈ st, jok h v) → (∀ v, some v ∈ ls' → jok h v) ∧ ∀ v ∈ st', jok h v) (k : JW D d M pc ls' st' h Q) : JW D d M pc ls st h Q := by
  intro hI hl hs
  obtain ⟨a, b⟩ := hok hI hl hs
  obtain ⟨r, h', hx, hq⟩ := k hI a b
  refine ⟨r, h', fun _ _ _ => ?_, hq⟩
  obtain ⟨x1, x2⟩ := hx hI a b
  refine ⟨x1, fun p l e R s m args below meth c H locs c0 u0 K lsA hF hR hL g1 g2 g3 g4 g5 g6 g7 g8 => ?_⟩
  have := x2 p l e R s m args below meth c H locs c0 u0 K lsA hF hR (by rw [jasc_congr el]; exact hL) g1 g2 g3 g4 g5 g6 g7 g8
  rw [es] at this
  exact this
end JUp
/-! a static method that the named class inherits -/
theorem jst_coldUp {Q : Unit → Pre} {E : CtlPost} {e : Env} {d : Bool} {acts : List Action} {s s₀ : State} {f : JFrame} {index ci n c : Nat} {m : MethodId} {dk ck : Class} {cf : ClassFile} {name desc : String} (hs : s.topJava?.isSome) (hp : e.platform.polymorphicOnlyByInvokevirtual = true)
    (hW : s₀.WarmedH s.vm) (hE : s₀.MethodEntryUp e s.vm f.method.cls index c m ci) (h1 : s₀.vm.classes[f.method.cls]? = some dk) (h2 : dk.cf = some cf)
    (h3 : cf.constantPool[index]? = some (.methodref ci n)) (h4 : cf.constantPool.nameAndType? n = some (name, desc))
    (hck : s₀.vm.classes[c]? = some ck) (hnone : (ck.methods.any fun x => x.name == name && !x.isStatic && signaturePolymorphic ck x) = false) :
    wp (invokestatic.sem index) Q E e d acts (s.setTop f) ↔ wp (invokestatic.sem index) Q E e d acts ((s.setVm (s.vm.calledUp f.method.cls ci index c m)).setTop f) := by
  obtain ⟨hgc, hrc, hW₁, hgm⟩ := hE.classFirst
  obtain ⟨k₀, hk₀, he₀⟩ := hW.alike.2.2 _ _ h1
  obtain ⟨k₂, hk₂, he₂⟩ := hE.warmed.alike.2.2 _ _ h1
  obtain ⟨c₁, hc₁, hec₁⟩ := hW₁.alike.2.2 _ _ hck
  obtain ⟨c₂, hc₂, hec₂⟩ := hE.warmed.alike.2.2 _ _ hck
  have hb₀ := memberRef_ask_via (e := e) (via := false) hk₀ (by rw [he₀]; exact h2) h3 h4
  have hb₂ := memberRef_ask_via (e := e) (via := false) hk₂ (by rw [he₂]; exact h2) h3 h4
  have hn₁ : (c₁.methods.any fun x => x.name == name && !x.isStatic && signaturePolymorphic c₁ x) = false := by rw [hec₁]; exact hnone
  have hn₂ : (c₂.methods.any fun x => x.name == name && !x.isStatic && signaturePolymorphic c₂ x) = false := by rw [hec₂]; exact hnone
  have hs₁ : (s.setVm (s.vm.noted f.method.cls ci (.cls c))).topJava?.isSome := hs
  have hs₂ : (s.setVm (s.vm.calledUp f.method.cls ci index c m)).topJava?.isSome := hs
  have hL : ∀ {Q' : ClassId → Pre} {d' : Bool} {acts' : List Action}, wp (Jvm.resolveClassAt ci) Q' E e d' acts' (s.setTop f) ↔ Q' c d' acts' ((s.setVm (s.vm.noted f.method.cls ci (.cls c))).setTop f) :=
    W.resolveClassAt_links (t := s.setTop f) (State.method?_setTop f hs) hgc
  have hM : ∀ {Q' : MethodId → Pre} {d' : Bool} {acts' : List Action}, wp (Jvm.resolveMethodAt index) Q' E e d' acts' ((s.setVm (s.vm.noted f.method.cls ci (.cls c))).setTop f) ↔ Q' m d' acts' ((s.setVm (s.vm.calledUp f.method.cls ci index c m)).setTop f) :=
    W.resolveMethodAt_links (t := (s.setVm (s.vm.noted f.method.cls ci (.cls c))).setTop f) (State.method?_setTop f hs₁) hgm
  simp [invokestatic.sem, hp, Seam.memberRefOf, State.method?_setTop f hs, State.method?_setTop f hs₂, hb₀, hb₂, hL, W.resolveClassAt_ready (s := (s.setVm (s.vm.calledUp f.method.cls ci index c m)).setTop f) (State.method?_setTop f hs₂) hE.classReady,
    hc₁, hc₂, hn₁, hn₂, hM, W.resolveMethodAt_ready (s := (s.setVm (s.vm.calledUp f.method.cls ci index c m)).setTop f) (State.method?_setTop f hs₂) hE.ready, -Array.any_eq_true]
theorem jX_staticUp {p : Program} {l : Launch} {e : Env} {R : Room} {s : State} {m : MethodId} {args : Array Value} {below : List Frame} {meth : Method} {c : Code} {T : State} {locs : List Loc} {cells slots : Nat} (X : Stand p l e R s m args below meth c T locs cells slots) (hexec : p.tables.exec = Jvm.exec)
    {own owner : String} {index : Nat} {x : MethodName} (hown : s.vm.findClass own = some m.cls) (hlink : (Cond.methodLink own index x).before args s = true) (hsame : (Cond.sameMethod x.cls owner x.name x.desc).before args s = true)
    (howner : owner ≠ "java/lang/invoke/MethodHandle" ∧ owner ≠ "java/lang/invoke/VarHandle")
    {m' : MethodId} {meth' : Method} {k' : Class} (hn : s.methodNamed? ⟨owner, x.name, x.desc⟩ = some m') (hm' : s.vm.method? m' = some meth') (hstatic : meth'.isStatic = true)
    (hk' : s.vm.classes[m'.cls]? = some k') (hinit : k'.init = .initialized)
    {g : JFrame} (hg : g.method = m) {argsL rest : List Value} (hlen : argsL.length = meth'.sig.parameters.length) (hstack : g.stack = argsL.reverse ++ rest)
    (hdg : decode c.code g.pc = .ok (.invokestatic index, 3)) :
    ∃ vm', Stand p l e R s m args below meth c (T.setVm vm') locs cells slots ∧
      ∀ target, (∀ acts, Steps p.tables e below (doInvoke e ((T.setVm vm').setTop { g with stack := rest }) acts m' argsL.toArray).1 target) → Steps p.tables e below (T.setTop g) target := by
  have hpl : e.platform.magicAccessors = ({} : Platform).magicAccessors := by rw [X.admits.platform]
  have hpv : e.platform.polymorphicOnlyByInvokevirtual = true := by rw [X.admits.platform]
  obtain ⟨cn, ck, r1, hcn, hck, hni, hf, hn1⟩ := Cond.sameMethod_found hsame
  cases hn.symm.trans hn1
  obtain ⟨ci, hl, hright⟩ := Cond.methodLink_specUp hown hcn hck hni hf hlink e.platform hpl (by rw [X.admits.platform])
  have hE : s.MethodEntryUp e T.vm m.cls index cn m' ci := State.methodEntryUp X.warmed hl hright
  obtain ⟨kx, hkx, hnx⟩ := className_of_methodNamed hn
  cases hk'.symm.trans hkx
  obtain ⟨dk, cfile, nt, mname, mdesc, ck2, _, _, hd, hcf, hcp, hnt, -, -, hck2, -, hnopoly, -⟩ := hl.here
  cases hck.symm.trans hck2
  have alike := hE.warmed.alike
  obtain ⟨dk₂, hdk₂, hed₂⟩ := alike.2.2 _ _ hd
  obtain ⟨k₂, hk₂, he₂⟩ := alike.2.2 _ _ hk'
  obtain ⟨c₂, hc₂, hec₂⟩ := alike.2.2 _ _ hck
  have hnone : (ck.methods.any fun y => y.name == mname && !y.isStatic && signaturePolymorphic ck y) = false := by simp [hnopoly]
  have hnone₂ : (c₂.methods.any fun y => y.name == mname && !y.isStatic && signaturePolymorphic c₂ y) = false := by rw [hec₂]; exact hnone
  refine ⟨T.vm.calledUp m.cls ci index cn m', X.noted hE.warmed, fun target hrest => ?_⟩
  subst hg
  jvm_step X.here [hexec, hdg, jst_coldUp (e := e) (s := T) (s₀ := s) (f := g) X.here.top hpv X.warmed hE hd hcf hcp hnt hck hnone,
    invokestatic.wp_ready (e := e) (s := T.setVm (T.vm.calledUp g.method.cls ci index cn m')) (k := k₂) (meth := meth') (m := m') (args := argsL) (rest := rest) (f := g)
      X.here.top ⟨ci, mname, mdesc, false, cn, c₂, memberRef_ask_via (e := e) (via := false) hdk₂ (by rw [hed₂]; exact hcf) hcp hnt, hE.classReady, hc₂, hnone₂⟩ hE.ready hk₂
      (by show (T.vm.calledUp g.method.cls ci index cn m').method? m' = some meth'; rw [alike.method?]; exact hm') (by rw [he₂]; show signaturePolymorphic k' meth' = false; simp [signaturePolymorphic, hnx, howner.1, howner.2]) hstatic (by rw [he₂]; exact hinit) hlen hstack]
  exact fun acts => hrest _
section JUs
variable {D : JD} {d : Nat} {M M' : JM} {pc pc' : Nat} {ls ls' : List (Option JV)} {st st' : List JV} {h h1 : JH} {Q : JO → JH → Prop}
theorem jstp_staticUp {idx : Nat} {x : MethodName} {sa as : List JV} (hd : jmT M pc = some (.invokestatic idx, 3)) (hl : Cond.methodLink (jmY M).cls idx x ∈ lw_all) (hsm : Cond.sameMethod x.cls (jmY M').cls x.name x.desc ∈ lw_all) (hy : jmY M' = ⟨(jmY M').cls, x.name, x.desc⟩) (hS : JSm M') (hM : JMok M') (hc : jchkT (jmP M') sa = true) (has : jret (jmP M') sa = as) : jstp D M M' pc (sa.reverse ++ st) st as h := by
  intro p l e R s m args below meth c T locs cells slots lsA mk methk ck hF hm hI hs hR X
  obtain ⟨m1, m2, m3, m4, m5, m6, m7, m8, m9⟩ := hm
  have hst : methk.isStatic = true := Cond.static_spec m1 m2 (hF.word hS.1 args)
  obtain ⟨kP, hkP, -⟩ := className_of_methodNamed m1
  have hini : kP.init = .initialized := Cond.initialized_spec (findClass_of_methodNamed m1) hkP (hF.word hM.2.2.2.2.1 args)
  have hdec : decode c.code pc = .ok (.invokestatic idx, 3) := by rw [hF.2.2.2.2.1]; exact hF.2.2.2.1.1 _ _ hd
  have hlen : (sa.map vv).length = methk.sig.parameters.length := by
    have := hS.2
    rw [m9] at this
    simp at this
    rw [List.length_map, jchkT_len _ _ hc, ← this]
  have hstk : (F0 m pc lsA ((sa.reverse ++ st).map vv)).stack = (sa.map vv).reverse ++ st.map vv := by simp
  have hav : (as.map vv) = sa.map vv := by rw [← has, jret_vv]
  rw [hy] at m1
  obtain ⟨vm', X', hstep⟩ := jX_staticUp X hF.1 hF.2.2.2.2.2.2.2.2.2.1 (hF.word hl args) (hF.word hsm args) hM.2.2.2.1 m1 m2 hst hkP hini (g := F0 m pc lsA ((sa.reverse ++ st).map vv)) rfl (argsL := sa.map vv) (rest := st.map vv) hlen hstk hdec
  exact ⟨vm', X', ⟨_, hdec⟩, fun tg htg => hstep tg fun acts => by rw [← hav]; exact htg acts⟩
/-- a constructor -/
theorem jstp_init {idx t r : Nat} {sa as : List JV} (hd : jmT M pc = some (.invokespecial idx, 3)) (hq : jmQ M idx = some (jmY M')) (hJ : JIm M') (hM : JMok M') (hcode : Cond.code (jmY M') (jmC M') (jmL M') none ∈ lw_all) (hr : r ≠ 0) (hc : jchkT (jmP M') (vR t r :: sa) = true) (has : jret (jmP M') (vR t r :: sa) = as) : jstp D M M' pc ((vR t r :: sa).reverse ++ st) st as h := by
  intro p l e R s m args below meth c T locs cells slots lsA mk methk ck hF hm hI hs hR X
  obtain ⟨m1, m2, m3, m4, m5, m6, m7, m8, m9⟩ := hm
  obtain ⟨b, rfl⟩ : ∃ b, r = b + 1 := ⟨r - 1, by omega⟩
  have hpl : e.platform.magicAccessors = ({} : Platform).magicAccessors := by rw [X.admits.platform]
  have hlink := hF.2.2.2.1.2.2.2.2.2.2.2.1 idx _ hq
  have hdec : decode c.code pc = .ok (.invokespecial idx, 3) := by rw [hF.2.2.2.2.1]; exact hF.2.2.2.1.1 _ _ hd
  have hlen : ∀ sig, parseMethodDescriptor (jmY M').desc = some sig → (sa.map vv).length = sig.parameters.length := by
    intro sig hsig
    have := hJ.2.2
    rw [hsig] at this
    simp at this
    have h2 := jchkT_len _ _ hc
    simp at h2 ⊢
    omega
  have hstk : (F0 m pc lsA (((vR t (b + 1) :: sa).reverse ++ st).map vv)).stack = (sa.map vv).reverse ++ .ref b :: st.map vv := by simp [vv, rv]
  have hav : (as.map vv) = .ref b :: sa.map vv := by rw [← has, jret_vv]; rfl
  rcases hlink with z | ⟨host, z⟩
  · obtain ⟨tm, me, cd, k, vm', y1, y2, y3, y4, y5, y6, y7, y8, y9, hstep⟩ := Steps.initColdArgs (bytes := jmC M') (maxL := jmL M') X.here hF.1 X.warmed hpl hF.2.2.2.2.2.2.2.2.2.1 hJ.2.1 hM.2.2.2.1 (hF.word z args) (hF.word hJ.1 args) (hF.word hcode args) (f := F0 m pc lsA (((vR t (b + 1) :: sa).reverse ++ st).map vv)) rfl (a := b) (argsL := sa.map vv) (rest := st.map vv) hlen hstk hdec
    cases m1.symm.trans y1
    exact ⟨vm', X.noted y9, ⟨_, hdec⟩, fun tg htg => hstep tg fun acts => by rw [← hav]; exact htg acts⟩
  · obtain ⟨tm, me, cd, k, vm', y1, y2, y3, y4, y5, y6, y7, y8, y9, hstep⟩ := Steps.initColdArgsNest (bytes := jmC M') (maxL := jmL M') X.here hF.1 X.warmed hpl hF.2.2.2.2.2.2.2.2.2.1 hJ.2.1 hM.2.2.2.1 (hF.nestM z args) (hF.word hJ.1 args) (hF.word hcode args) (f := F0 m pc lsA (((vR t (b + 1) :: sa).reverse ++ st).map vv)) rfl (a := b) (argsL := sa.map vv) (rest := st.map vv) hlen hstk hdec
    cases m1.symm.trans y1
    exact ⟨vm', X.noted y9, ⟨_, hdec⟩, fun tg htg => hstep tg fun acts => by rw [← hav]; exact htg acts⟩
end JUs
