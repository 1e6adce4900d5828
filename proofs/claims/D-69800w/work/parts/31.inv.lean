/-! the steps that enter a method -/
section JIv
variable {D : JD} {d : Nat} {M M' : JM} {pc pc' : Nat} {ls ls' : List (Option JV)} {st st' : List JV} {h h1 : JH} {Q : JO → JH → Prop}
theorem jstp_static {idx : Nat} {sa as : List JV} (hd : jmT M pc = some (.invokestatic idx, 3)) (hq : jmQ M idx = some (jmY M')) (hS : JSm M') (hM : JMok M') (hc : jchkT (jmP M') sa = true) (has : jret (jmP M') sa = as) : jstp D M M' pc (sa.reverse ++ st) st as h := by
  intro p l e R s m args below meth c T locs cells slots lsA mk methk ck hF hm hI hs hR X
  obtain ⟨m1, m2, m3, m4, m5, m6, m7, m8, m9⟩ := hm
  have hlink := hF.2.2.2.1.2.2.2.2.2.2.2.1 idx _ hq
  have hst : methk.isStatic = true := Cond.static_spec m1 m2 (hF.word hS.1 args)
  obtain ⟨kP, hkP, -⟩ := className_of_methodNamed m1
  have hini : kP.init = .initialized := Cond.initialized_spec (findClass_of_methodNamed m1) hkP (hF.word hM.2.2.2.2.1 args)
  have hdec : decode c.code pc = .ok (.invokestatic idx, 3) := by rw [hF.2.2.2.2.1]; exact hF.2.2.2.1.1 _ _ hd
  have hlen : (sa.map vv).length = methk.sig.parameters.length := by
    have := hS.2
    rw [m9] at this
    simp at this
    rw [List.length_map, jchkT_len _ _ hc, ← this]
  have hstk : (F0 m pc lsA ((sa.reverse ++ st).map vv)).stack = (sa.map vv).reverse ++ st.map vv := by simp
  have hav : (as.map vv) = sa.map vv := by rw [← has, jret_vv]
  rcases hlink with z | ⟨host, z⟩
  · obtain ⟨vm', X', hstep⟩ := X.invokestatic hF.1 hF.2.2.2.2.2.2.2.2.2.1 (hF.word z args) m1 m2 hst hkP hini hM.2.2.2.1 (g := F0 m pc lsA ((sa.reverse ++ st).map vv)) rfl (argsL := sa.map vv) (rest := st.map vv) hlen hstk hdec
    exact ⟨vm', X', ⟨_, hdec⟩, fun tg htg => hstep tg fun acts => by rw [← hav]; exact htg acts⟩
  · obtain ⟨vm', X', hstep⟩ := X.invokestaticNest hF.1 hF.2.2.2.2.2.2.2.2.2.1 (hF.nestM z args) m1 m2 hst hkP hini hM.2.2.2.1 (g := F0 m pc lsA ((sa.reverse ++ st).map vv)) rfl (argsL := sa.map vv) (rest := st.map vv) hlen hstk hdec
    exact ⟨vm', X', ⟨_, hdec⟩, fun tg htg => hstep tg fun acts => by rw [← hav]; exact htg acts⟩
/-- the receiver's cell -/
theorem jrecv {t r : Nat} {H : Heap} (hI : JInv D h) (hv : jok h (vR t r)) (hr : r ≠ 0) (hR : JRl D h H) : ∃ b cell, r = b + 1 ∧ H[b]? = some cell ∧ cell.vm.isStatics = false ∧ cell.cls = jck D (jkd h r) ∧ jkk (jkd h r) = true ∧ sbt (jkd h r) t = true ∧ jkd h r < 226 := by
  rcases hv with e | e
  · exact absurd e hr
  · have e : sbt (jkd h r) t = true := e
    obtain ⟨b, cell, h1, h2, h3⟩ := jcell hR (sbt_ne0 e) hr
    exact ⟨b, cell, h1, h2, h3.2.2.1, h3.1, (hI.1 r (sbt_ne0 e)).2.2, e, sbt_lt e⟩
theorem jstp_virtual {idx t r k : Nat} {sa as : List JV} (hd : jmT M pc = some (.invokevirtual idx, 3)) (hq : jmQ M idx = some (jmY M')) (hV : JVm M') (hM : JMok M') (hr : r ≠ 0) (hk : JInv D h → jok h (vR t r) → job_ (jkd h r) = true ∧ jcn (jkd h r) = (jmY M').cls) (hc : jchkT (jmP M') (vR t r :: sa) = true) (has : jret (jmP M') (vR t r :: sa) = as) : jstp D M M' pc ((vR t r :: sa).reverse ++ st) st as h := by
  intro p l e R s m args below meth c T locs cells slots lsA mk methk ck hF hm hI hs hR X
  obtain ⟨m1, m2, m3, m4, m5, m6, m7, m8, m9⟩ := hm
  have hrv : jok h (vR t r) := hs _ (by simp)
  obtain ⟨b, cell, rfl, e1, e2, e3, e4, e5, e6⟩ := jrecv hI hrv hr hR
  obtain ⟨hj, hC⟩ := hk hI hrv
  obtain ⟨hfc, -⟩ := hF.cls hj
  rw [hC] at hfc
  have hlink := hF.2.2.2.1.2.2.2.2.2.2.2.1 idx _ hq
  obtain ⟨mk', methM, hnamed, hmethM, hstM, habM⟩ := Cond.instanceMethod_spec (hF.word hV.1 args)
  cases m1.symm.trans hnamed
  cases m2.symm.trans hmethM
  obtain ⟨c2, r2, m2', q1, q2, q3, q4, kP, hkP, hkPi⟩ := Cond.selects_spec (hF.word hV.2.1 args)
  cases hfc.symm.trans q1
  cases (State.methodFound?_of_named m1 hM.2.2.2.1).symm.trans q2
  cases m1.symm.trans q3
  have hselP : selectMethod e.platform s.vm cell.cls mk = .method mk := by rw [Launch.admits_selectMethod X.admits, e3]; exact q4
  have hdec : decode c.code pc = .ok (.invokevirtual idx, 3) := by rw [hF.2.2.2.2.1]; exact hF.2.2.2.1.1 _ _ hd
  have hlen : (sa.map vv).length = methk.sig.parameters.length := by
    have := hV.2.2
    rw [m9] at this
    simp at this
    have h2 := jchkT_len _ _ hc
    simp at h2 ⊢
    omega
  have hstk : (F0 m pc lsA (((vR t (b + 1) :: sa).reverse ++ st).map vv)).stack = (sa.map vv).reverse ++ .ref b :: st.map vv := by simp [vv, rv]
  have hav : (as.map vv) = .ref b :: sa.map vv := by rw [← has, jret_vv]; rfl
  have hobj : ∀ c, cell.vm ≠ .statics c := fun z hz => by rw [hz] at e2; cases e2
  rcases hlink with z | ⟨host, z⟩
  · obtain ⟨vm', X', hstep⟩ := X.invokevirtual hF.1 hF.2.2.2.2.2.2.2.2.2.1 (hF.word z args) m1 m2 hstM hkP hkPi hM.2.2.2.1 (a := b) (cell := cell) e1 hobj hselP m2 habM hkP hkPi (g := F0 m pc lsA (((vR t (b + 1) :: sa).reverse ++ st).map vv)) rfl (argsL := sa.map vv) (rest := st.map vv) hlen hstk hdec
    exact ⟨vm', X', ⟨_, hdec⟩, fun tg htg => hstep tg fun acts => by rw [← hav]; exact htg acts⟩
  · obtain ⟨vm', X', hstep⟩ := X.invokevirtualNest hF.1 hF.2.2.2.2.2.2.2.2.2.1 (hF.nestM z args) m1 m2 hstM hkP hkPi hM.2.2.2.1 (a := b) (cell := cell) e1 hobj hselP m2 habM hkP hkPi (g := F0 m pc lsA (((vR t (b + 1) :: sa).reverse ++ st).map vv)) rfl (argsL := sa.map vv) (rest := st.map vv) hlen hstk hdec
    exact ⟨vm', X', ⟨_, hdec⟩, fun tg htg => hstep tg fun acts => by rw [← hav]; exact htg acts⟩
end JIv
