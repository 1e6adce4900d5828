/-! exceptions caught in the method -/
/-- the search for a handler that ends in one, the tables warmer -/
def JFinds (e : Env) (s : State) (f : JFrame) (a : Addr) (hd : Handler) (vm' : Vm) : Prop := ∀ (Q : Handler → Pre) (E : CtlPost) (d : Bool) (acts : List Action), wp (findHandler f a) Q E e d acts s ↔ Q hd d acts (s.setVm vm')
theorem jgo_link {E : CtlPost} {e : Env} {d : Bool} {acts : List Action} {s : State} {f : JFrame} {a : Addr} {Q : Handler → Pre} {x : ExceptionTableEntry} {t : List ExceptionTableEntry} {c : ClassId} {cell : Cell} (hx : covers x f.pc = true) (h0 : x.catchType ≠ 0)
    (hl : s.vm.ClassLinks e.platform f.method.cls x.catchType c) (hcell : s.heap[a]? = some cell) (hobj : ∀ k, cell.vm ≠ .statics k) (hk : ∃ k, s.vm.classes[cell.cls]? = some k) (hc : ∃ k, s.vm.classes[c]? = some k) {b : Bool} (hb : s.vm.assignable cell.cls c = b) :
    wp (findHandler.go f a (x :: t)) Q E e d acts s ↔ (match b with | true => Q (.found x.handlerPc) d acts (s.setVm (s.vm.noted f.method.cls x.catchType (.cls c))) | false => wp (findHandler.go f a t) Q E e d acts (s.setVm (s.vm.noted f.method.cls x.catchType (.cls c)))) := by
  simp only [covers] at hx
  obtain ⟨ha, ht⟩ := (resolveClass_links e.toSetting hl).op (op := VmOp.resolveClass f.method.cls x.catchType) rfl
  have hal : s.vm.Alike (s.vm.noted f.method.cls x.catchType (.cls c)) := (Vm.Alike.refl s.vm).noted _ _ _
  obtain ⟨k1, hk1⟩ := hk
  obtain ⟨k2, hk2⟩ := hc
  obtain ⟨k1', hk1', -⟩ := hal.2.2 _ _ hk1
  obtain ⟨k2', hk2', -⟩ := hal.2.2 _ _ hk2
  have hb' : (s.vm.noted f.method.cls x.catchType (.cls c)).assignable cell.cls c = b := by rw [hal.assignable]; exact hb
  cases b <;> simp [findHandler.go, hx, h0, ha, ht, hcell, hobj, hk1', hk2', hb', VmOp.dirties, VmOp.acts]
theorem jstep_catch {e : Env} {s : State} {a : Addr} {f : JFrame} {r : List Frame} {pc : Nat} {vm' : Vm} (hfind : JFinds e s f a (.found pc) vm') :
    (stepThrowing e s a (.java f :: r)).Is ((s.setVm vm').setFrames (.java { f with pc := pc, stack := [.ref a] } :: r)) [] := by
  simp only [stepThrowing, searchFrame, vmDo]
  generalize hr : Sem.go _ e false [] s = res
  obtain ⟨as, rfl, ha⟩ := Sem.eq_ok_of hr (a := Handler.found pc) (s' := s.setVm vm') (acts' := []) (by simp [hfind _ _ _ _])
  exact ⟨rfl, ha⟩
theorem jcaught {tb : Tables} {e : Env} {s target : State} {g : JFrame} {c : Code} {below : List Frame} {a : Addr} (h : At s g.method c below) {pc : Nat} {vm' : Vm} (hfind : JFinds e ((s.setTop g).pushFrame (.throwing a)) g a (.found pc) vm')
    (hrest : Steps tb e below ((s.setVm vm').setTop { g with pc := pc, stack := [.ref a] }) target) :
    Steps tb e below ((s.setTop g).pushFrame (.throwing a)) target := by
  obtain ⟨hgo, hw⟩ := h.throwing a
  refine Steps.head hgo hw ?_
  rw [stepThread_throwing (frames_entered h.top _), (jstep_catch (s := (s.setTop g).pushFrame (.throwing a)) hfind).1]
  obtain ⟨g₀, hg⟩ := Option.isSome_iff_exists.mp h.top
  obtain ⟨r, hr⟩ := State.topJava?_eq_some.mp hg
  have hr2 : (s.setVm vm').frames = .java g₀ :: r := hr
  rw [State.setTop_of_frames _ hr2] at hrest
  rw [State.pushFrame, State.setTop_of_frames _ hr, State.setFrames_setFrames]
  have e1 : ∀ (F1 : List Frame), (s.setFrames F1).setVm vm' = (s.setVm vm').setFrames F1 := fun _ => rfl
  rw [e1, State.setFrames_setFrames, hr]
  exact hrest
/-- what the table of handlers says for an exception of the kind k -/
def jfind (M : JM) (pc k : Nat) : List (Nat × Nat × Nat × Nat) → Option Nat
  | [] => none
  | q :: l => cond (Nat.ble q.1 pc && Nat.blt pc q.2.1) (cond (Nat.beq q.2.2.2 0) none ((jmK M q.2.2.2).elim none fun kt => cond (Nat.beq k kt) (some q.2.2.1) (cond ((jneg k kt).isSome && (job_ kt && Nat.ble kt 225)) (jfind M pc k l) none))) (jfind M pc k l)
section JCh
variable {D : JD} {d : Nat} {M M' : JM} {pc pc' : Nat} {ls ls' : List (Option JV)} {st st' : List JV} {h h1 : JH} {Q : JO → JH → Prop}
theorem jfind_go {p : Program} {l : Launch} {e : Env} {s : State} {m : MethodId} {meth : Method} {c : Code} {g : JFrame} {a : Nat} {cell : Cell} {k hp : Nat} (hF : JFr D M l p s m meth c) (hpl : e.platform.magicAccessors = ({} : Platform).magicAccessors) (hk : k < 226) (hj : job_ k = true)
    (hobj : cell.vm.isStatics = false) (hcls : s.vm.findClass (jcn k) = some cell.cls) (hkc : ∃ kk, s.vm.classes[cell.cls]? = some kk) (hg : g.method = m) :
    ∀ (xs : List ExceptionTableEntry) (T : State), T.heap[a]? = some cell → s.WarmedH T.vm → jfind M g.pc k (xs.map (fun h => (h.startPc, h.endPc, h.handlerPc, h.catchType))) = some hp →
      ∃ vm', s.WarmedH vm' ∧ ∀ (Q : Handler → Pre) (E : CtlPost) (d : Bool) (acts : List Action), wp (findHandler.go g a xs) Q E e d acts T ↔ Q (.found hp) d acts (T.setVm vm') := by
  intro xs
  induction xs with
  | nil => intro T _ _ hf; cases hf
  | cons x xs ih =>
    intro T hcell hW hf
    have hcov : (Nat.ble x.startPc g.pc && Nat.blt g.pc x.endPc) = covers x g.pc := by
      unfold covers
      rw [Bool.eq_iff_iff]
      simp [Nat.blt, Nat.lt_iff_add_one_le]
    rw [List.map_cons] at hf
    unfold jfind at hf
    dsimp only at hf
    rw [hcov] at hf
    cases hc : covers x g.pc with
    | false =>
      rw [hc] at hf
      obtain ⟨vm', h1, h2⟩ := ih T hcell hW hf
      exact ⟨vm', h1, fun Q E d acts => (W.findHandler_go_skip hc).trans (h2 Q E d acts)⟩
    | true =>
      rw [hc] at hf
      cases h0 : Nat.beq x.catchType 0 with
      | true => rw [h0] at hf; cases hf
      | false =>
        rw [h0] at hf
        have h0' : x.catchType ≠ 0 := fun z => by rw [z] at h0; cases h0
        cases hkt : jmK M x.catchType with
        | none => rw [hkt] at hf; cases hf
        | some kt =>
          rw [hkt] at hf
          have hlink := hF.word (hF.2.2.2.1.2.2.2.2.2.2.1 _ kt hkt) #[]
          obtain ⟨cT, hcT, hcl⟩ := Cond.classLink_spec hF.2.2.2.2.2.2.2.2.2.1 hlink e.platform hpl
          obtain ⟨dk, _, _, kt', hd, _, _, _, _, hkt', _, hopen⟩ := hcl.here
          have hW' : s.WarmedH (T.vm.noted m.cls x.catchType (.cls cT)) := hW.noted hd hopen (State.rightAt_cls hcl)
          have hcl₀ := hW.classLinks hcl
          have hks : ∃ kk, T.vm.classes[cell.cls]? = some kk := by
            obtain ⟨kk, z⟩ := hkc
            obtain ⟨kk', z', -⟩ := hW.alike.2.2 _ _ z
            exact ⟨kk', z'⟩
          have hkT : ∃ kk, T.vm.classes[cT]? = some kk := by
            obtain ⟨kk', z', -⟩ := hW.alike.2.2 _ _ hkt'
            exact ⟨kk', z'⟩
          have hobj' : ∀ q, cell.vm ≠ .statics q := fun q hq => by rw [hq] at hobj; cases hobj
          subst hg
          have hf : (cond (Nat.beq k kt) (some x.handlerPc) (cond ((jneg k kt).isSome && (job_ kt && Nat.ble kt 225)) (jfind M g.pc k (xs.map (fun h => (h.startPc, h.endPc, h.handlerPc, h.catchType)))) none)) = some hp := hf
          cases he : Nat.beq k kt with
          | true =>
            rw [he] at hf
            have hf : some x.handlerPc = some hp := hf
            have hkk : k = kt := Nat.beq_eq.mp he
            subst hkk
            cases hcls.symm.trans hcT
            have hasg : T.vm.assignable cell.cls cell.cls = true := by
              rw [hW.alike.assignable]
              have e : jck D k = cell.cls := Option.some.inj ((hF.cls hj).1.symm.trans hcT)
              rw [← e]
              exact va_assign (hF.cls hj)
            refine ⟨_, hW', fun Q E d acts => ?_⟩
            rw [jgo_link hc h0' hcl₀ hcell hobj' hks hkT hasg]
            cases hf
            exact Iff.rfl
          | false =>
            rw [he] at hf
            cases hn : ((jneg k kt).isSome && (job_ kt && Nat.ble kt 225)) with
            | false => rw [hn] at hf; cases hf
            | true =>
              rw [hn] at hf
              have hf : jfind M g.pc k (xs.map (fun h => (h.startPc, h.endPc, h.handlerPc, h.catchType))) = some hp := hf
              simp only [Bool.and_eq_true, Nat.ble_eq] at hn
              obtain ⟨n1, n2, n3⟩ := hn
              obtain ⟨q1, q2, z1, z2, z3⟩ := hF.neg hk (Nat.lt_succ_of_le n3) n1
              cases hcls.symm.trans z1
              cases hcT.symm.trans z2
              have hasg : T.vm.assignable cell.cls cT = false := by rw [hW.alike.assignable]; exact z3
              obtain ⟨vm', h1, h2⟩ := ih (T.setVm (T.vm.noted g.method.cls x.catchType (.cls cT))) hcell hW' hf
              refine ⟨vm', h1, fun Q E d acts => ?_⟩
              rw [jgo_link hc h0' hcl₀ hcell hobj' hks hkT hasg]
              exact h2 Q E d acts
/-- from the note over the frame to the handler -/
theorem jcatch_run {p : Program} {l : Launch} {e : Env} {R : Room} {s : State} {m : MethodId} {args : Array Value} {below : List Frame} {meth : Method} {c : Code} {T : State} {locs : List Loc} {cells slots a hp : Nat} {g : JFrame} (X : Stand p l e R s m args below meth c T locs cells slots) (hF : JFr D M l p s m meth c) (hI : JInv D h) (hR : JRl D h T.heap) (hg : g.method = m) (hj : job_ (jkd h (a + 1)) = true) (hf : jfind M g.pc (jkd h (a + 1)) (jmH M) = some hp) :
    ∃ vm', Stand p l e R s m args below meth c (T.setVm vm') locs cells slots ∧ ∀ target, Steps p.tables e below ((T.setVm vm').setTop { g with pc := hp, stack := [.ref a] }) target → Steps p.tables e below ((T.setTop g).pushFrame (.throwing a)) target := by
  have hk0 : jkd h (a + 1) ≠ 0 := fun e => by rw [e] at hj; exact absurd hj (by decide)
  have hpl : e.platform.magicAccessors = ({} : Platform).magicAccessors := by rw [X.admits.platform]
  obtain ⟨b, cell, e0, e1, e2, e3, e4⟩ := hF.cellAt hI hR (Nat.succ_ne_zero a) hj
  obtain rfl : a = b := by omega
  have hlt : jkd h (a + 1) < 226 := by
    rcases Nat.lt_or_ge (jkd h (a + 1)) 226 with z | z
    · exact z
    · exfalso
      unfold job_ at hj
      rw [Nat.ble_eq.mpr z] at hj
      cases hj
  rw [← hF.2.2.2.2.2.2.2.2.2.2.1] at hf
  obtain ⟨vm', h1, h2⟩ := jfind_go hF hpl hlt hj e2 e3 e4 hg c.exceptionTable.toList ((T.setTop g).pushFrame (.throwing a)) (by rw [Stand.throwing_heap]; exact e1) (by rw [Stand.throwing_vm]; exact X.warmed) hf
  refine ⟨vm', X.noted h1, fun target hrest => ?_⟩
  have hat : At T g.method c below := by rw [hg]; exact X.here
  refine jcaught (vm' := vm') hat (fun Q E d acts => ?_) hrest
  rw [W.findHandler_eq (meth := meth) (code := c) (by rw [hg, Stand.throwing_vm]; exact X.method') X.code]
  exact h2 Q E d acts
theorem jt_sref1 {k : Nat} (hj : job_ k = true) (hl : k < 226) : sbt k k = true := sbt_iff.mpr (jt_sref0 k hl (jt_jkk0 k hl (Or.inl hj)))
theorem job_lt {k : Nat} (hj : job_ k = true) : k < 226 := by
  rcases Nat.lt_or_ge k 226 with z | z
  · exact z
  · exfalso
    unfold job_ at hj
    rw [Nat.ble_eq.mpr z] at hj
    cases hj
theorem jw_athrowC {t r hp : Nat} (hd : jmT M pc = some (.athrow, 1)) (hr : r ≠ 0) (hj : job_ (jkd h r) = true) (hf : jfind M pc (jkd h r) (jmH M) = some hp) (k : JW D d M hp ls [vR (jkd h r) r] h Q) : JW D d M pc ls (vR t r :: st) h Q := by
  intro hI hl hs
  have hs' : ∀ v ∈ [vR (jkd h r) r], jok h v := fun v hv => by
    simp at hv; rw [hv]; exact Or.inr (jt_sref1 hj (job_lt hj))
  obtain ⟨r', h', hx, hq⟩ := k hI hl hs'
  refine ⟨r', h', fun _ _ _ => ?_, hq⟩
  obtain ⟨x1, x2⟩ := hx hI hl hs'
  refine ⟨x1, fun p l e R s m args below meth c H locs c0 u0 K lsA hF hR hL g1 g2 g3 g4 g5 g6 g7 g8 => ?_⟩
  have w := x2 p l e R s m args below meth c H locs c0 u0 K lsA hF hR hL g1 g2 g3 g4 g5 g6 g7 g8
  intro T hT X
  subst hT
  obtain ⟨a, rfl⟩ : ∃ a, r = a + 1 := ⟨r - 1, by omega⟩
  obtain ⟨vm', X', hst⟩ := jcatch_run (g := F0 m pc lsA (st.map vv)) X hF hI hR rfl hj hf
  obtain ⟨t', a1, b1⟩ := w (T.setVm vm') rfl X'
  refine ⟨t', ?_, b1⟩
  have hwalk := hst t' a1
  have hdec : decode c.code pc = .ok (.athrow, 1) := by rw [hF.2.2.2.2.1]; exact hF.2.2.2.1.1 _ _ hd
  show Steps p.tables e below (T.setTop (F0 m pc lsA (.ref a :: st.map vv))) t'
  jvm_step X.here [hF.1, hdec, athrow.wp_sem]
  exact hwalk
/-- a call under a handler that takes what it throws -/
theorem jw_callH {st0 sa as : List JV} {P : JO → JH → Prop} (hM : JMok M') (hst : st0 = sa.reverse ++ st) (hc : jchkT (jmP M') sa = true) (has : jret (jmP M') sa = as) (hn : Nat.ble (as.map jct).sum (jmL M') = true) (hcat : Nat.ble ((st.map jct).sum + jmL M') 35 = true)
    (hstp : jstp D M M' pc st0 st as h) (callee : JW D d M' 0 (jpad (jent as) (jmL M')) [] h P)
    (k : ∀ r h1, P r h1 → JInv D h1 → jle h h1 → jokO h1 r → match r with | .inl v => JW D (d + 1) M (pc + 3) ls (v.toList ++ st) h1 Q | .inr x => ∃ hp, job_ (jkd h1 x) = true ∧ jfind M pc (jkd h1 x) (jmH M) = some hp ∧ JW D (d + 1) M hp ls [vR (jkd h1 x) x] h1 Q) : JW D (d + 1) M pc ls st0 h Q := by
  intro hI hl hs
  have hn := Nat.ble_eq.mp hn
  have hcat := Nat.ble_eq.mp hcat
  have hsa : ∀ v ∈ sa, jok h v := fun v hv => hs v (by rw [hst]; simp [hv])
  have hs2 : ∀ v ∈ st, jok h v := fun v hv => hs v (by rw [hst]; simp [hv])
  have hao : ∀ v ∈ as, jok h v := by rw [← has]; exact jret_ok _ _ hc hsa
  have hent : ∀ v, some v ∈ jpad (jent as) (jmL M') → jok h v := fun v hv => by
    obtain ⟨k, hk⟩ := List.getElem?_of_mem hv
    exact hao v (jent_mem (n := 0) (jpad_at hk)).2
  obtain ⟨r, h1, hx, hp⟩ := callee hI hent (fun v hv => by cases hv)
  obtain ⟨⟨b1, b2, b3⟩, -⟩ := hx hI hent (fun v hv => by cases hv)
  have hk := k r h1 hp b1 b3 b2
  have hl1 : ∀ v, some v ∈ ls → jok h1 v := fun v hv => (hl v hv).le b3
  cases r with
  | inl v =>
    have hk : JW D (d + 1) M (pc + 3) ls (v.toList ++ st) h1 Q := hk
    have hs1 : ∀ w ∈ v.toList ++ st, jok h1 w := fun w hw => by
      rcases List.mem_append.mp hw with q | q
      · cases v with
        | none => cases q
        | some z => simp at q; rw [q]; exact b2
      · exact (hs2 w q).le b3
    obtain ⟨r', h', hx', hq⟩ := hk b1 hl1 hs1
    refine ⟨r', h', fun _ _ _ => ?_, hq⟩
    obtain ⟨⟨c1, c2, c3⟩, cc⟩ := hx' b1 hl1 hs1
    refine ⟨⟨c1, c2, b3.tr c3⟩, fun p l e R s m args below meth c H locs c0 u0 K lsA hF hR hL g1 g2 g3 g4 g5 g6 g7 g8 => ?_⟩
    intro T hT X
    subst hT
    obtain ⟨mk, methk, ck, hm⟩ := hF.meth hM
    obtain ⟨vm', X1, ⟨ig, hdg⟩, hstep⟩ := hstp p l e R s m args below meth c T locs _ _ lsA mk methk ck hF hm hI hs hR X
    have y1 := b3.1; have y2 := b3.2.1; have y3 := c3.1; have y4 := c3.2.1
    obtain ⟨T', L, z1, z2, z3, z4, z5⟩ := jcall_run (d := d) (as := as) (K := K) X1 hF hM hm (g := F0 m pc lsA (st.map vv)) rfl (hL.1.trans hF.2.2.2.2.2.1.symm) hdg hn hx hI hao hR g1 (by
      rw [jcat_sum]
      show 2 * 0 + _ + _ + _ ≤ _
      omega) (by omega) (by omega) g8
    have w := cc p l e R s m args below meth c T'.heap (locs ++ L) c0 u0 K lsA hF z3 hL g1 g2 g3 g4 (Nat.le_trans g5 y1) (Nat.le_trans g6 y2) (fun q hq => by
      rcases List.mem_append.mp hq with e | e
      · exact g7 q e
      · exact z2 q e) z4
    rw [show jsz h - c0 + (jsz h1 - jsz h) = jsz h1 - c0 by omega, show jus h - u0 + (jus h1 - jus h) = jus h1 - u0 by omega] at z1
    obtain ⟨t, t1, t2⟩ := w T' rfl z1
    refine ⟨t, hstep t (z5 t ?_), t2⟩
    have e : (v.toList ++ st).map vv = (v.map vv).toList ++ st.map vv := by cases v <;> simp
    rw [e] at t1
    exact t1
  | inr x =>
    obtain ⟨hp, hj, hf, hk⟩ := hk
    have hs1 : ∀ v ∈ [vR (jkd h1 x) x], jok h1 v := fun v hv => by
      simp at hv; rw [hv]; exact Or.inr (jt_sref1 hj (job_lt hj))
    obtain ⟨r', h', hx', hq⟩ := hk b1 hl1 hs1
    refine ⟨r', h', fun _ _ _ => ?_, hq⟩
    obtain ⟨⟨c1, c2, c3⟩, cc⟩ := hx' b1 hl1 hs1
    refine ⟨⟨c1, c2, b3.tr c3⟩, fun p l e R s m args below meth c H locs c0 u0 K lsA hF hR hL g1 g2 g3 g4 g5 g6 g7 g8 => ?_⟩
    intro T hT X
    subst hT
    obtain ⟨mk, methk, ck, hm⟩ := hF.meth hM
    obtain ⟨vm', X1, ⟨ig, hdg⟩, hstep⟩ := hstp p l e R s m args below meth c T locs _ _ lsA mk methk ck hF hm hI hs hR X
    have y1 := b3.1; have y2 := b3.2.1; have y3 := c3.1; have y4 := c3.2.1
    obtain ⟨T', L, z1, z2, z3, z4, a, ha, z5⟩ := jcall_run (d := d) (as := as) (K := K) X1 hF hM hm (g := F0 m pc lsA (st.map vv)) rfl (hL.1.trans hF.2.2.2.2.2.1.symm) hdg hn hx hI hao hR g1 (by
      rw [jcat_sum]
      show 2 * 0 + _ + _ + _ ≤ _
      omega) (by omega) (by omega) g8
    rw [show jsz h - c0 + (jsz h1 - jsz h) = jsz h1 - c0 by omega, show jus h - u0 + (jus h1 - jus h) = jus h1 - u0 by omega] at z1
    subst ha
    obtain ⟨vm2, X2, hst2⟩ := jcatch_run (g := F0 m pc lsA (st.map vv)) z1 hF b1 z3 rfl hj hf
    have w := cc p l e R s m args below meth c T'.heap (locs ++ L) c0 u0 K lsA hF z3 hL g1 g2 g3 g4 (Nat.le_trans g5 y1) (Nat.le_trans g6 y2) (fun q hq => by
      rcases List.mem_append.mp hq with e | e
      · exact g7 q e
      · exact z2 q e) z4
    obtain ⟨t, t1, t2⟩ := w (T'.setVm vm2) rfl X2
    exact ⟨t, hstep t (z5 t (hst2 t t1)), t2⟩
end JCh
