/-! calls of private methods of a class above the receiver's, and of super methods -/
section JSup
variable {D : JD} {d : Nat} {M M' : JM} {pc pc' : Nat} {ls ls' : List (Option JV)} {st st' : List JV} {h h1 : JH} {Q : JO → JH → Prop}
/-- the words of a method of a class above -/
def JPm (M' : JM) : Prop := Cond.sameMethod (jmY M').cls (jmY M').cls (jmY M').name (jmY M').desc ∈ lw_all ∧ Cond.instanceMethod (jmY M') ∈ lw_all ∧ (parseMethodDescriptor (jmY M').desc).map (fun g => g.parameters.length + 1) = some (jmP M').length
theorem jstp_priv {idx t r : Nat} {sa as : List JV} (hd : jmT M pc = some (.invokevirtual idx, 3)) (hq : jmQ M idx = some (jmY M')) (hV : JPm M') (hpv : Cond.privateMethod (jmY M') ∈ lw_tbl) (hM : JMok M') (hr : r ≠ 0) (hc : jchkT (jmP M') (vR t r :: sa) = true) (has : jret (jmP M') (vR t r :: sa) = as) : jstp D M M' pc ((vR t r :: sa).reverse ++ st) st as h := by
  intro p l e R s m args below meth c T locs cells slots lsA mk methk ck hF hm hI hs hR X
  obtain ⟨m1, m2, m3, m4, m5, m6, m7, m8, m9⟩ := hm
  have hrv : jok h (vR t r) := hs _ (by simp)
  obtain ⟨b, cell, rfl, e1, e2, e3, e4, e5, e6⟩ := jrecv hI hrv hr hR
  have hlink := hF.2.2.2.1.2.2.2.2.2.2.2.1 idx _ hq
  obtain ⟨mk', methM, hnamed, hmethM, hstM, habM⟩ := Cond.instanceMethod_spec (hF.word hV.2.1 args)
  cases m1.symm.trans hnamed
  cases m2.symm.trans hmethM
  obtain ⟨cn, ckk, r1, hcn, hck, hni, hf, hn1⟩ := Cond.sameMethod_found (hF.word hV.1 args)
  obtain ⟨bb, hbb, -⟩ := hF.2.1.1
  have hpv' : s.PrivateAt (jmY M') := Cond.privateMethod_at (Cond.privateMethod_warm (args' := args) hF.2.2.1 (hbb _ hpv))
  have hcm : cn = mk.cls := Option.some.inj (hcn.symm.trans (findClass_of_methodNamed m1))
  subst hcm
  have hselP : selectMethod e.platform s.vm cell.cls mk = .method mk := selectMethod_private m2 (hpv' mk methk m1 m2)
  have hdec : decode c.code pc = .ok (.invokevirtual idx, 3) := by rw [hF.2.2.2.2.1]; exact hF.2.2.2.1.1 _ _ hd
  have hlen : (sa.map vv).length = methk.sig.parameters.length := by
    have := hV.2.2
    rw [m9] at this
    simp at this
    have h2 := jchkT_len _ _ hc
    simp at h2 ⊢
    omega
  have hstk : (F0 m pc lsA (((vR t (b + 1) :: sa).reverse ++ st).map vv)).stack = (sa.map vv).reverse ++ .ref b :: st.map vv := by simp [vv, rv]
  have hav : (as.map vv) = .ref b :: sa.map vv := by rw [← has, jret_vv]; rfl
  have hobj : ∀ c, cell.vm ≠ .statics c := fun z hz => by rw [hz] at e2; cases e2
  rcases hlink with z | ⟨host, z⟩
  · obtain ⟨vm', X', hstep⟩ := X.invokevirtual hF.1 hF.2.2.2.2.2.2.2.2.2.1 (hF.word z args) m1 m2 hstM hck hni hM.2.2.2.1 (a := b) (cell := cell) e1 hobj hselP m2 habM hck hni (g := F0 m pc lsA (((vR t (b + 1) :: sa).reverse ++ st).map vv)) rfl (argsL := sa.map vv) (rest := st.map vv) hlen hstk hdec
    exact ⟨vm', X', ⟨_, hdec⟩, fun tg htg => hstep tg fun acts => by rw [← hav]; exact htg acts⟩
  · obtain ⟨vm', X', hstep⟩ := X.invokevirtualNest hF.1 hF.2.2.2.2.2.2.2.2.2.1 (hF.nestM z args) m1 m2 hstM hck hni hM.2.2.2.1 (a := b) (cell := cell) e1 hobj hselP m2 habM hck hni (g := F0 m pc lsA (((vR t (b + 1) :: sa).reverse ++ st).map vv)) rfl (argsL := sa.map vv) (rest := st.map vv) hlen hstk hdec
    exact ⟨vm', X', ⟨_, hdec⟩, fun tg htg => hstep tg fun acts => by rw [← hav]; exact htg acts⟩
theorem jstp_super {idx t r : Nat} {sa as : List JV} (hd : jmT M pc = some (.invokespecial idx, 3)) (hl : Cond.methodLink (jmY M).cls idx (jmY M') ∈ lw_all) (hV : JPm M') (hsup : Cond.superclass (jmY M).cls (jmY M').cls ∈ lw_all) (hno : (jmY M').name ≠ "<init>") (hM : JMok M') (hr : r ≠ 0) {C : String} (hk : JInv D h → jok h (vR t r) → job_ (jkd h r) = true ∧ jcn (jkd h r) = C) (hc : jchkT (jmP M') (vR t r :: sa) = true) (has : jret (jmP M') (vR t r :: sa) = as) : jstp D M M' pc ((vR t r :: sa).reverse ++ st) st as h := by
  intro p l e R s m args below meth c T locs cells slots lsA mk methk ck hF hm hI hs hR X
  obtain ⟨m1, m2, m3, m4, m5, m6, m7, m8, m9⟩ := hm
  have hrv : jok h (vR t r) := hs _ (by simp)
  obtain ⟨b, cell, rfl, e1, e2, e3, e4, e5, e6⟩ := jrecv hI hrv hr hR
  obtain ⟨mk', methM, hnamed, hmethM, hstM, habM⟩ := Cond.instanceMethod_spec (hF.word hV.2.1 args)
  cases m1.symm.trans hnamed
  cases m2.symm.trans hmethM
  obtain ⟨ps, dk, kp, hps, hdk, hkp, hsuper, -, -, hnid⟩ := Cond.superclass_spec hF.2.2.2.2.2.2.2.2.2.1 (hF.word hsup args)
  have hpm : ps = mk.cls := Option.some.inj (hps.symm.trans (findClass_of_methodNamed m1))
  have hsub : s.vm.isSubclass ps mk.cls = true := by rw [hpm]; simp [Vm.isSubclass, Vm.isSubclassAux]
  have hdec : decode c.code pc = .ok (.invokespecial idx, 3) := by rw [hF.2.2.2.2.1]; exact hF.2.2.2.1.1 _ _ hd
  have hlen : (sa.map vv).length = methk.sig.parameters.length := by
    have := hV.2.2
    rw [m9] at this
    simp at this
    have h2 := jchkT_len _ _ hc
    simp at h2 ⊢
    omega
  have hstk : (F0 m pc lsA (((vR t (b + 1) :: sa).reverse ++ st).map vv)).stack = (sa.map vv).reverse ++ .ref b :: st.map vv := by simp [vv, rv]
  have hav : (as.map vv) = .ref b :: sa.map vv := by rw [← has, jret_vv]; rfl
  have hobj : ∀ c, cell.vm ≠ .statics c := fun z hz => by rw [hz] at e2; cases e2
  obtain ⟨kB, hkB⟩ : ∃ kB, s.vm.classes[cell.cls]? = some kB := by
    rw [e3]; obtain ⟨-, kC, hkC, -⟩ := hF.cls (hk hI hrv).1; exact ⟨kC, hkC⟩
  obtain ⟨vm', X', hstep⟩ := X.invokespecialUp hF.1 hF.2.2.2.2.2.2.2.2.2.1 (hF.word hl args) (hF.word hV.1 args) m1 m2 hstM habM hno hdk hnid hps hsuper hsub (a := b) (cell := cell) e1 hobj hkB (g := F0 m pc lsA (((vR t (b + 1) :: sa).reverse ++ st).map vv)) rfl (argsL := sa.map vv) (rest := st.map vv) hlen hstk hdec
  exact ⟨vm', X', ⟨_, hdec⟩, fun tg htg => hstep tg (by rw [← hav]; exact htg [])⟩
theorem jw_step2 (h1I : JInv D h → (∀ v, some v ∈ ls → jok h v) → (∀ v ∈ st, jok h v) → JInv D h1 ∧ jle h h1 ∧ (∀ v, some v ∈ ls' → jok h1 v) ∧ (∀ v ∈ st', jok h1 v))
    (f : ∀ (p : Program) (l : Launch) (e : Env) (R : Room) (s : State) (m : MethodId) (args : Array Value) (below : List Frame) (meth : Method) (c : Code) (H : Heap) (locs : List Loc) (c0 u0 : Nat) (Z : State → Prop) (lsA : Array Slot) (K : Nat → Prop),
      JInv D h → (∀ v ∈ st, jok h v) → JFr D M l p s m meth c → JRl D h H → lv_has lsA (jmL M) (jasc 0 ls) → c0 ≤ jsz h → u0 ≤ jus h → d ≤ R.frames → 46 * d ≤ R.locals → jsz h1 - c0 ≤ R.cells → jus h1 - u0 ≤ R.slots → (∀ q ∈ locs, jbs D ≤ q.base) → JKp K s h H →
      (∀ (lsB : Array Slot) (H1 : Heap) (locs1 : List Loc), lv_has lsB (jmL M) (jasc 0 ls') → JRl D h1 H1 → (∀ q ∈ locs1, jbs D ≤ q.base) → JKp K s h1 H1 → W p l e R s m args below meth c H1 locs1 (jsz h1 - c0) (jus h1 - u0) Z (F0 m pc' lsB (st'.map vv))) →
      W p l e R s m args below meth c H locs (jsz h - c0) (jus h - u0) Z (F0 m pc lsA (st.map vv)))
    (k : JW D d M pc' ls' st' h1 Q) : JW D d M pc ls st h Q := by
  intro hI hl hs
  obtain ⟨i1, i2, i3, i4⟩ := h1I hI hl hs
  obtain ⟨r, h', hx, hq⟩ := k i1 i3 i4
  refine ⟨r, h', fun _ _ _ => ?_, hq⟩
  obtain ⟨⟨a1, a2, a3⟩, b⟩ := hx i1 i3 i4
  refine ⟨⟨a1, a2, i2.tr a3⟩, fun p l e R s m args below meth c H locs c0 u0 K lsA hF hR hL g1 g2 g3 g4 g5 g6 g7 g8 => ?_⟩
  refine f p l e R s m args below meth c H locs c0 u0 _ lsA K hI hs hF hR hL g5 g6 g1 g2 ?_ ?_ g7 g8 fun lsB H1 locs1 hB hR1 hl1 hK1 => ?_
  · have := a3.1; omega
  · have := a3.2.1; omega
  · exact b p l e R s m args below meth c H1 locs1 c0 u0 K lsB hF hR1 hB g1 g2 g3 g4 (Nat.le_trans g5 i2.1) (Nat.le_trans g6 i2.2.1) hl1 hK1
theorem jasg_rf (vm : Vm) (c : ClassId) : vm.assignable c c = true := by
  show vm.assignableAux (255 + 1) c c = true
  unfold Vm.assignableAux
  simp
theorem JFr.arrCls {p : Program} {l : Launch} {s : State} {m : MethodId} {meth : Method} {c : Code} {k : Nat} (hF : JFr D M l p s m meth c) (hty : aty k = some .byte) : s.vm.findClass "[B" = some (jck D k) :=
  (hF.arr k .byte hty).1
theorem jw_castA {idx kt t r : Nat} (hd : jmT M pc = some (.checkcast idx, 3)) (hk : jmK M idx = some kt) (hcn : jcn kt = "[B") (ht : jar_ t = true) (hty : aty t = some .byte) (hr : r ≠ 0) (k : JW D d M pc' ls (vR t r :: st) h Q) (hp : pc + 3 = pc' := by rfl) : JW D d M pc ls (vR t r :: st) h Q := by
  subst hp
  refine jw_st (fun hI hl hs => ⟨hI, jle.rf h, hl, hs⟩) (fun p l e R s m args below meth c H locs c0 u0 Z lsA K hI hs hF hR hL g1 g2 g3 g4 g5 g6 kk => ?_) k
  obtain ⟨o1, o2, o3, o4, o5⟩ := jarrobj (hs _ List.mem_cons_self) hr ht
  obtain ⟨q, cell, rfl, hc, hcell⟩ := jcell hR o1 hr
  have hf := hF.arrCls (o3.trans hty)
  have hlink := hF.2.2.2.1.2.2.2.2.2.2.1 idx kt hk
  rw [hcn] at hlink
  intro T hT X
  obtain ⟨vm', X', stp⟩ := X.checkcastYes hF.1 hF.2.2.2.2.2.2.2.2.2.1 (hF.word hlink args) (by rw [hT]; exact hc) hcell.2.2.1 hf (by rw [hcell.1]; exact jasg_rf _ _) (g := F0 m pc lsA (.ref q :: st.map vv)) rfl rfl (by rw [hF.2.2.2.2.1]; exact hF.2.2.2.1.1 _ _ hd)
  obtain ⟨t', a1, b1⟩ := kk lsA H locs hL hR g5 g6 (T.setVm vm') hT X'
  exact ⟨t', stp t' a1, b1⟩
theorem jw_clone {idx t r : Nat} (hd : jmT M pc = some (.invokevirtual idx, 3)) (hl : Cond.methodLink (jmY M).cls idx ⟨"[B", "clone", "()Ljava/lang/Object;"⟩ ∈ lw_all) (ht : jar_ t = true) (hty : aty t = some .byte) (hcat : Nat.ble ((st.map jct).sum) 20 = true) (hr : r ≠ 0)
    (hfit : ∀ i, i < jln h r → fits .byte (.int (jai h r i)) = true)
    (k : ∀ r1 h1, r1 = jsz h + 1 → h1 = cpa (nwa h 219 (jln h r)) r 0 (jsz h + 1) 0 (jln h r) → JW D (d + 1) M pc' ls (vR 219 r1 :: st) h1 Q) (hp : pc + 3 = pc' := by rfl) : JW D (d + 1) M pc ls (vR t r :: st) h Q := by
  subst hp
  have hcat := Nat.ble_eq.mp hcat
  have hkd : ∀ q, jkd (cpa (nwa h 219 (jln h r)) r 0 (jsz h + 1) 0 (jln h r)) q = if q = jsz h + 1 then 219 else jkd h q := fun q => rfl
  refine jw_step2 (fun hI hl hs => ?_) (fun p l e R s m args below meth c H locs c0 u0 Z lsA K hI hs hF hR hL g1 g2 g3 g4 g3' g4' g5 g6 kk => ?_) (k _ _ rfl rfl)
  · have hle := jle_new (h := h) (h1 := cpa (nwa h 219 (jln h r)) r 0 (jsz h + 1) 0 (jln h r)) (n := jln h r) hI hkd rfl rfl
    have hI1 : JInv D (nwa h 219 (jln h r)) := hI.new rfl (nwa_kd 219 _) (nwa_lnk 219 _) rfl (fun _ _ => ⟨rfl, rfl, rfl⟩) (fun _ _ => ⟨rfl, rfl, rfl⟩)
    refine ⟨hI1.cpa (by have := hI.2.2.2.2.2.2.1; omega) (Nat.le_refl _), hle, fun v hv => (hl v hv).le hle, fun v hv => ?_⟩
    rcases List.mem_cons.mp hv with q | q
    · rw [q]; exact jok_new (n := jln h r) _ hkd rfl
    · exact (hs v (List.mem_cons_of_mem _ q)).le hle
  · obtain ⟨o1, o2, o3, o4, o5⟩ := jarrobj (hs _ List.mem_cons_self) hr ht
    obtain ⟨q, cell, rfl, hc, hcell⟩ := jcell hR o1 hr
    have hty' := o3.trans hty
    have hf := hF.arrCls hty'
    have hf2 := hF.arrCls (k := 219) rfl
    have hck : jck D (jkd h (q + 1)) = jck D 219 := Option.some.inj (hf.symm.trans hf2)
    have htk : atk (jkd h (q + 1)) = 0 := by
      have key : ∀ k, k < 226 → aty k = some .byte → atk k = 0 := by decide +kernel
      exact key _ o2 hty'
    have s1 := hcell.2.2.2.2.2 (by rw [hty']; simp)
    have hev : ∀ i, i < jln h (q + 1) → cell.slots[i]? = some (.int (jai h (q + 1) i)) := fun i hi => by
      rw [s1.2 i hi]; unfold jev; rw [htk]; rfl
    obtain ⟨-, kA, hkA, comp, hkind⟩ := jisarr hF hcell hty'
    have w1 : Cond.sameMethod "[B" "java/lang/Object" "clone" "()Ljava/lang/Object;" ∈ lw_all := lw_g (jtb_mem (c := 3) (i := 191) rfl) rfl
    have w2 : Cond.native ⟨"java/lang/Object", "clone", "()Ljava/lang/Object;"⟩ ∈ lw_all := lw_g (jtb_mem (c := 3) (i := 192) rfl) rfl
    have w3 : Cond.instanceMethod ⟨"java/lang/Object", "clone", "()Ljava/lang/Object;"⟩ ∈ lw_all := lw_g (jtb_mem (c := 3) (i := 193) rfl) rfl
    have w4 : Cond.selects "[B" ⟨"[B", "clone", "()Ljava/lang/Object;"⟩ ⟨"java/lang/Object", "clone", "()Ljava/lang/Object;"⟩ ∈ lw_all := lw_g (jtb_mem (c := 3) (i := 194) rfl) rfl
    have w5 : Cond.castable "[B" "java/lang/Cloneable" ∈ lw_tbl := jtb_mem (c := 3) (i := 195) rfl
    obtain ⟨bb, hbb, -⟩ := hF.2.1.1
    obtain ⟨cB, cC, f1, f2, f3⟩ := Cond.castable_spec (va_Nw.use (A := args) rfl (va_Nw.warmC hF.2.2.1 (va_Nw.of rfl (hbb _ w5))))
    cases hf.symm.trans f1
    intro T hT X
    subst hT
    obtain ⟨kA', hkA', hkA2⟩ := X.warmed.alike.2.2 _ _ hkA
    obtain ⟨vm', X', stp⟩ := X.cloneArray hF.1 hF.2.2.2.2.2.2.2.2.2.1 (hF.word hl args) (hF.word w1 args) (hF.word w2 args) (hF.word w3 args) (hF.word w4 args) (a := q) (cell := cell) hc
      (fun k hk => by have := hcell.2.2.1; rw [hk] at this; cases this) hcell.2.1 (by rw [hcell.1]; exact hf) f2 (by rw [hcell.1]; exact f3)
      (fun i v hv => by
        have hi : i < jln h (q + 1) := by rw [← s1.1]; exact (Array.getElem?_eq_some_iff.mp hv).1
        rw [hev i hi] at hv
        cases hv
        obtain ⟨-, kB, hkB, compB, hkindB⟩ := State.isArrayOf_alike X.warmed.alike (jisarr hF hcell hty')
        simpa [State.fitsSlot, State.slotType?, hkB, hkindB] using hfit i hi)
      (g := F0 m pc lsA (.ref q :: st.map vv)) rfl (hL.1.trans hF.2.2.2.2.2.1.symm) rfl (by rw [hF.2.2.2.2.1]; exact hF.2.2.2.1.1 _ _ hd) (by omega) (by rw [jcat_sum]; show 2 * 0 + _ + 14 ≤ _; omega)
      (by have : jsz (cpa (nwa h 219 (jln h (q + 1))) (q + 1) 0 (jsz h + 1) 0 (jln h (q + 1))) = jsz h + 1 := rfl; omega) (by rw [s1.1]; have : jus (cpa (nwa h 219 (jln h (q + 1))) (q + 1) 0 (jsz h + 1) 0 (jln h (q + 1))) = jus h + jln h (q + 1) := rfl; omega) (hloader := Vm.clonesLoader_of_array hkA hkind)
    have e3 : ∀ a, a < T.heap.size → (T.heap.push ({ cls := cell.cls, slots := cell.slots } : Cell))[a]? = T.heap[a]? := fun a ha => by rw [Array.getElem?_push, if_neg (Nat.ne_of_lt ha)]
    have hR1 : JRl D (cpa (nwa h 219 (jln h (q + 1))) (q + 1) 0 (jsz h + 1) 0 (jln h (q + 1))) (T.heap.push ({ cls := cell.cls, slots := cell.slots } : Cell)) := by
      refine jrl_new hI hR hkd (nwa_lnk 219 _) rfl (fun _ _ => rfl) (fun _ => rfl) (fun a i ha => ?_) (cell := ({ cls := cell.cls, slots := cell.slots } : Cell)) (by simp) (by simp) e3 ?_
      · unfold jev
        rw [hkd, if_neg (by omega), cpa_ai, if_neg (fun z => by omega)]
        rfl
      · refine ⟨(by rw [hkd, if_pos rfl, ← hck]; exact hcell.1), (fun z => by cases z), rfl, (fun _ => ⟨rfl, fun y _ => (by rw [hkd, if_pos rfl] at y; cases y)⟩), (fun z => (by rw [hkd, if_pos rfl] at z; cases z)), (fun _ => ?_)⟩
        have eln : jln (cpa (nwa h 219 (jln h (q + 1))) (q + 1) 0 (jsz h + 1) 0 (jln h (q + 1))) (jsz h + 1) = jln h (q + 1) := by rw [cpa_ln, nwa_ln, if_pos rfl]
        refine ⟨s1.1.trans eln.symm, fun i hi => ?_⟩
        rw [eln] at hi
        show cell.slots[i]? = _
        rw [hev i hi]
        unfold jev
        rw [hkd, if_pos rfl, cpa_ai, if_pos ⟨rfl, Nat.zero_le _, by omega⟩]
        show some (Value.int _) = some (Value.int (jai h (q + 1) (0 + (i - 0))))
        rw [Nat.zero_add, Nat.sub_zero]
    have z := kk lsA _ locs hL hR1 g5 (jkp_new hR hkd e3 g6) ((T.setVm vm').pushCell { cls := cell.cls, slots := cell.slots }) rfl
    have hsz : jsz (cpa (nwa h 219 (jln h (q + 1))) (q + 1) 0 (jsz h + 1) 0 (jln h (q + 1))) = jsz h + 1 := rfl
    have hus : jus (cpa (nwa h 219 (jln h (q + 1))) (q + 1) 0 (jsz h + 1) 0 (jln h (q + 1))) = jus h + jln h (q + 1) := rfl
    rw [hsz, hus, show jsz h + 1 - c0 = jsz h - c0 + 1 by omega, show jus h + jln h (q + 1) - u0 = jus h - u0 + cell.slots.size by rw [s1.1]; omega] at z
    obtain ⟨t', a1, b1⟩ := z X'
    refine ⟨t', stp t' ?_, b1⟩
    have : vv (vR 219 (jsz h + 1)) = .ref T.heap.size := by rw [hR.1]; rfl
    rw [← this]
    exact a1
end JSup
