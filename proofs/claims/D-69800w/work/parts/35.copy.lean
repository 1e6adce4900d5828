/-! Object.<init>; System.arraycopy of ints, bytes, booleans, shorts -/
/-- elements of one array copied into another -/
def cpa (h : JH) (s sp t tp n : Nat) : JH := (h.1, h.2.1, h.2.2.1, h.2.2.2.1, h.2.2.2.2.1, (fun q j => if q = t ∧ tp ≤ j ∧ j < tp + n then h.2.2.2.2.2.1 s (sp + (j - tp)) else h.2.2.2.2.2.1 q j), h.2.2.2.2.2.2)
section JCy
variable {D : JD} {d : Nat} {M M' : JM} {pc pc' : Nat} {ls ls' : List (Option JV)} {st st' : List JV} {h h1 : JH} {Q : JO → JH → Prop}
theorem jw_step1 (h1I : JInv D h → (∀ v, some v ∈ ls → jok h v) → (∀ v ∈ st, jok h v) → JInv D h1 ∧ jle h h1 ∧ (∀ v, some v ∈ ls' → jok h1 v) ∧ (∀ v ∈ st', jok h1 v))
    (f : ∀ (p : Program) (l : Launch) (e : Env) (R : Room) (s : State) (m : MethodId) (args : Array Value) (below : List Frame) (meth : Method) (c : Code) (H : Heap) (locs : List Loc) (c0 u0 : Nat) (Z : State → Prop) (lsA : Array Slot) (K : Nat → Prop),
      JInv D h → (∀ v ∈ st, jok h v) → JFr D M l p s m meth c → JRl D h H → lv_has lsA (jmL M) (jasc 0 ls) → c0 ≤ jsz h → u0 ≤ jus h → d ≤ R.frames → 46 * d ≤ R.locals → (∀ q ∈ locs, jbs D ≤ q.base) → JKp K s h H →
      (∀ (lsB : Array Slot) (H1 : Heap) (locs1 : List Loc), lv_has lsB (jmL M) (jasc 0 ls') → JRl D h1 H1 → (∀ q ∈ locs1, jbs D ≤ q.base) → JKp K s h1 H1 → W p l e R s m args below meth c H1 locs1 (jsz h1 - c0) (jus h1 - u0) Z (F0 m pc' lsB (st'.map vv))) →
      W p l e R s m args below meth c H locs (jsz h - c0) (jus h - u0) Z (F0 m pc lsA (st.map vv)))
    (k : JW D d M pc' ls' st' h1 Q) : JW D d M pc ls st h Q := by
  intro hI hl hs
  obtain ⟨i1, i2, i3, i4⟩ := h1I hI hl hs
  obtain ⟨r, h', hx, hq⟩ := k i1 i3 i4
  refine ⟨r, h', fun _ _ _ => ?_, hq⟩
  obtain ⟨⟨a1, a2, a3⟩, b⟩ := hx i1 i3 i4
  refine ⟨⟨a1, a2, i2.tr a3⟩, fun p l e R s m args below meth c H locs c0 u0 K lsA hF hR hL g1 g2 g3 g4 g5 g6 g7 g8 => ?_⟩
  refine f p l e R s m args below meth c H locs c0 u0 _ lsA K hI hs hF hR hL g5 g6 g1 g2 g7 g8 fun lsB H1 locs1 hB hR1 hl1 hK1 => ?_
  exact b p l e R s m args below meth c H1 locs1 c0 u0 K lsB hF hR1 hB g1 g2 g3 g4 (Nat.le_trans g5 i2.1) (Nat.le_trans g6 i2.2.1) hl1 hK1
theorem jw_obj {idx t r : Nat} (hd : jmT M pc = some (.invokespecial idx, 3)) (hl : Cond.methodLink (jmY M).cls idx Lib.objectInit ∈ lw_all) (hcat : Nat.ble ((st.map jct).sum) 34 = true) (hr : r ≠ 0) (k : JW D (d + 1) M pc' ls st h Q) (hp : pc + 3 = pc' := by rfl) : JW D (d + 1) M pc ls (vR t r :: st) h Q := by
  subst hp
  have hcat := Nat.ble_eq.mp hcat
  refine jw_step1 (fun hI hl hs => ⟨hI, jle.rf h, hl, fun v hv => hs v (List.mem_cons_of_mem _ hv)⟩) (fun p l e R s m args below meth c H locs c0 u0 Z lsA K hI hs hF hR hL g1 g2 g3 g4 g5 g6 kk => ?_) k
  obtain ⟨a, rfl⟩ : ∃ a, r = a + 1 := ⟨r - 1, by omega⟩
  have i1 : Cond.instanceMethod Lib.objectInit ∈ lw_all := lw_g (jtb_mem (c := 1) (i := 81) rfl) rfl
  have i2 : Cond.code Lib.objectInit ⟨#[0xb1]⟩ 1 none ∈ lw_all := lw_g (jtb_mem (c := 1) (i := 82) rfl) rfl
  refine W.objInit hF.1 hF.2.2.2.2.1 hF.2.2.2.2.2.2.2.2.2.1 (hF.word hl args) (hF.word i1 args) (hF.word i2 args) (g := F0 m pc lsA (.ref a :: st.map vv)) rfl (hL.1.trans hF.2.2.2.2.2.1.symm) rfl (hF.2.2.2.1.1 _ _ hd) (by omega) ?_ (kk lsA H locs hL hR g5 g6)
  rw [jcat_sum]
  show 2 * 0 + _ + _ ≤ _
  omega
theorem cpa_kd (s sp t tp n q : Nat) : jkd (cpa h s sp t tp n) q = jkd h q := rfl
theorem cpa_ln (s sp t tp n q : Nat) : jln (cpa h s sp t tp n) q = jln h q := rfl
theorem cpa_fv (s sp t tp n F q : Nat) : jfv (cpa h s sp t tp n) F q = jfv h F q := rfl
theorem cpa_ai (s sp t tp n q j : Nat) : jai (cpa h s sp t tp n) q j = if q = t ∧ tp ≤ j ∧ j < tp + n then jai h s (sp + (j - tp)) else jai h q j := rfl
theorem JInv.cpa {s sp t tp n : Nat} (hI : JInv D h) (hb : jbs D < t) (hz : t ≤ jsz h) : JInv D (cpa h s sp t tp n) := by
  obtain ⟨i1, i2, i3, i4, i5, i6, i7⟩ := hI
  refine ⟨i1, i2, i3, i4, fun r hr => ⟨(i5 r hr).1, fun i => ?_⟩, fun r hr => ⟨(i6 r hr).1, (i6 r hr).2.1, (i6 r hr).2.2.1, fun i => ?_⟩, i7⟩
  · have hne : r ≠ t := fun e => by have hr : jsz h < r := hr; omega
    rw [cpa_ai, if_neg (fun e => hne e.1)]; exact (i5 r hr).2 i
  · have hne : r ≠ t := fun e => by omega
    rw [cpa_ai, if_neg (fun e => hne e.1)]; exact (i6 r hr).2.2.2 i
theorem jint {x : Int32} {i : Nat} (hx : jix x i) : x.toInt = (i : Int) := by
  have hz0 : (0 : Int) ≤ x.toInt := by
    have := Int32.not_lt.mp hx.1
    simpa using Int32.le_iff_toInt_le.mp this
  have h2 := hx.2
  have : x.toNatClampNeg = x.toInt.toNat := rfl
  omega
theorem jw_acopy {idx t1 t2 r1 r2 sp dp n : Nat} {xs xd xn : Int32} {ty : FieldType} (hd : jmT M pc = some (.invokestatic idx, 3)) (hl : Cond.methodLink (jmY M).cls idx arraycopyName ∈ lw_all) (hcat : Nat.ble ((st.map jct).sum) 20 = true)
    (ha1 : jar_ t1 = true) (ha2 : jar_ t2 = true) (hty1 : aty t1 = some ty) (hty2 : aty t2 = some ty) (htk : atk t1 = 0) (htk2 : atk t2 = 0) (hrk : refKind ty = false) (hw : wtg t2 = true) (hr1 : r1 ≠ 0) (hr2 : r2 ≠ 0) (h1 : jix xs sp) (h2 : jix xd dp) (h3 : jix xn n) (h4 : sp + n ≤ jln h r1) (h5 : dp + n ≤ jln h r2)
    (hfit : ∀ i, i < n → fits ty (.int (jai h r1 (sp + i))) = true) (k : JW D (d + 1) M pc' ls st (cpa h r1 sp r2 dp n) Q) (hp : pc + 3 = pc' := by rfl) : JW D (d + 1) M pc ls (vI xn :: vI xd :: vR t2 r2 :: vI xs :: vR t1 r1 :: st) h Q := by
  subst hp
  have hcat := Nat.ble_eq.mp hcat
  have hwr : JInv D h → jok h (vR t2 r2) → wrt (jkd h r2) = true := fun hI hv => by
    rcases hv with e | e
    · exact absurd e hr2
    · have e : sbt (jkd h r2) t2 = true := e
      exact jt_wtg0 _ (sbt_lt e) (hI.1 r2 (sbt_ne0 e)).2.2 t2 (sbt_iff.mp e) hw
  have hle : jle h (cpa h r1 sp r2 dp n) := ⟨Nat.le_refl _, Nat.le_refl _, fun q _ => rfl⟩
  refine jw_step1 (fun hI hl hs => ?_) (fun p l e R s m args below meth c H locs c0 u0 Z lsA K hI hs hF hR hL g1 g2 g3 g4 g5 g6 kk => ?_) k
  · have hrv := hs (vR t2 r2) (by simp)
    exact ⟨hI.cpa (hI.2.1 r2 (hwr hI hrv)) (hI.1 r2 (jarrobj hrv hr2 ha2).1).2.1, hle, fun v hv => (hl v hv).le hle, fun v hv => (hs v (by simp [hv])).le hle⟩
  · have hrv := hs (vR t2 r2) (by simp)
    have hrv1 := hs (vR t1 r1) (by simp)
    obtain ⟨o1, o2, o3, o4, o5⟩ := jarrobj hrv hr2 ha2
    obtain ⟨y1, y2, y3, y4, y5⟩ := jarrobj hrv1 hr1 ha1
    obtain ⟨q2, cd, rfl, hc2, hcell2⟩ := jcell hR o1 hr2
    obtain ⟨q1, cs, rfl, hc1, hcell1⟩ := jcell hR y1 hr1
    have hty2' := o3.trans hty2
    have hty1' := y3.trans hty1
    have s2 := hcell2.2.2.2.2.2 (by rw [hty2']; simp)
    have s1 := hcell1.2.2.2.2.2 (by rw [hty1']; simp)
    obtain ⟨-, kd, hkd, cmd, hkkd⟩ := jisarr hF hcell2 hty2'
    obtain ⟨-, ks, hks, cms, hkks⟩ := jisarr hF hcell1 hty1'
    have a1 : Cond.native arraycopyName ∈ lw_all := lw_g (jtb_mem (c := 3) (i := 124) rfl) rfl
    have a2 : Cond.static arraycopyName ∈ lw_all := lw_g (jtb_mem (c := 3) (i := 123) rfl) rfl
    have a3 : Cond.initialized "java/lang/System" ∈ lw_all := lw_g (jtb_mem (c := 1) (i := 29) rfl) rfl
    have hval : ∀ i, i < n → cs.slots.getD (sp + i) .null = .int (jai h (q1 + 1) (sp + i)) := fun i hi => by
      rw [Array.getD_eq_getD_getElem?, s1.2 _ (by omega)]
      unfold jev
      rw [y4, htk]
      rfl
    intro T hT X
    subst hT
    obtain ⟨vm', X', hst⟩ := X.arraycopy hF.1 hF.2.2.2.2.2.2.2.2.2.1 (hF.word hl args) (hF.word a1 args) (hF.word a2 args) (hF.word a3 args) (src := q1) (dst := q2) (srcPos := xs) (destPos := xd) (n := xn) hc1 hc2 (fun k hk => by have := hcell1.2.2.1; rw [hk] at this; cases this) (fun k hk => by have := hcell2.2.2.1; rw [hk] at this; cases this) hcell1.2.1 hcell2.2.1 hks hkd hkks hkkd (by simp [hrk]) h1.1 h2.1 h3.1
      (by rw [jint h1, jint h3, s1.1]; omega) (by rw [jint h2, jint h3, s2.1]; omega) (fun vm₁ _ i hi => by
        rw [h3.2] at hi
        rw [h1.2, hval i hi]
        exact ⟨hfit i hi, trivial⟩) (g := F0 m pc lsA (.int xn :: .int xd :: .ref q2 :: .int xs :: .ref q1 :: st.map vv)) rfl (hL.1.trans hF.2.2.2.2.2.1.symm) rfl (by rw [hF.2.2.2.2.1]; exact hF.2.2.2.1.1 _ _ hd) (by omega) (by
        rw [jcat_sum]
        show 2 * 0 + _ + (nativeFrameWords "java/lang/System" "arraycopy" 5 + 11) ≤ _
        have : nativeFrameWords "java/lang/System" "arraycopy" 5 ≤ 14 := by decide +kernel
        omega)
    have hl2 : q2 < T.heap.size := (Array.getElem?_eq_some_iff.mp hc2).1
    have e1 : (T.heap.setIfInBounds q2 (copied cs cd xs xd xn))[q2]? = some (copied cs cd xs xd xn) := by simp [Array.getElem?_setIfInBounds, hl2]
    have e3 : ∀ a, a ≠ q2 → (T.heap.setIfInBounds q2 (copied cs cd xs xd xn))[a]? = T.heap[a]? := fun a ha => by simp [Array.getElem?_setIfInBounds, Ne.symm ha]
    have hwq := hwr hI hrv
    have hb := hI.2.1 _ hwq
    have hf := Cell.storeRun_facts cd xd.toNatClampNeg (cs.stretch xs.toNatClampNeg xn.toNatClampNeg)
    have hR1 : JRl D (cpa h (q1 + 1) sp (q2 + 1) dp n) (T.heap.setIfInBounds q2 (copied cs cd xs xd xn)) := by
      refine ⟨by simp; exact hR.1, fun a ha => ?_, fun a ha => ?_⟩
      · rw [e3 a (by omega)]; exact hR.2.1 a ha
      · by_cases haq : a = q2
        · subst haq
          refine ⟨_, e1, ?_⟩
          obtain ⟨c1, c2, c3, c4, c5, c6⟩ := hcell2
          refine ⟨hf.1.trans c1, by rw [hf.2.1]; exact c2, by rw [hf.2.1]; exact c3, fun z => ⟨by rw [hf.2.1]; exact (c4 z).1, fun y _ => (by rw [cpa_kd] at y; rw [jexc_aty y] at hty2'; cases hty2')⟩, fun z => (by rw [cpa_kd] at z; rw [hty2'] at z; cases z), fun z => ?_⟩
          refine ⟨hf.2.2.1.trans s2.1, fun i hi => ?_⟩
          show (cd.storeRun xd.toNatClampNeg (cs.stretch xs.toNatClampNeg xn.toNatClampNeg)).slots[i]? = _
          rw [h1.2, h2.2, h3.2, Cell.storeRun_get _ _ _ _ (by rw [Cell.stretch_length, s2.1]; omega), Cell.stretch_length]
          unfold jev
          rw [cpa_kd, o4, htk2]
          show _ = some (Value.int (jai (cpa h (q1 + 1) sp (a + 1) dp n) (a + 1) i))
          rw [cpa_ai]
          by_cases hin : dp ≤ i ∧ i < dp + n
          · rw [if_pos hin, if_pos ⟨rfl, hin⟩]
            unfold Cell.stretch
            rw [List.getElem?_map, List.getElem?_range (by omega)]
            show some (cs.slots.getD (sp + (i - dp)) .null) = _
            rw [hval _ (by omega)]
          · rw [if_neg hin, if_neg (fun z => hin z.2), s2.2 i hi]
            unfold jev
            rw [o4, htk2]
            rfl
        · obtain ⟨cl, d1, d2⟩ := hR.2.2 a ha
          refine ⟨cl, by rw [e3 a haq]; exact d1, ?_⟩
          obtain ⟨c1, c2, c3, c4, c5, c6⟩ := d2
          refine ⟨c1, c2, c3, c4, c5, fun z => ⟨(c6 z).1, fun i hi => ?_⟩⟩
          rw [(c6 z).2 i hi]
          unfold jev
          rw [cpa_kd]
          show _ = some (match atk (jkd h (a + 1)) with | 0 => Value.int (jai (cpa h (q1 + 1) sp (q2 + 1) dp n) (a + 1) i) | 1 => _ | _ => _)
          rw [cpa_ai, if_neg (fun z => haq (by omega))]
          rfl
    obtain ⟨t, t1, t2⟩ := kk lsA (T.heap.setIfInBounds q2 (copied cs cd xs xd xn)) _ hL hR1 (fun q hq => by
      rcases List.mem_append.mp hq with z | z
      · exact g5 q z
      · obtain ⟨z, -, hz⟩ := List.mem_map.mp z
        rw [← hz]
        show jbs D ≤ q2
        omega) (fun q hq1 hq2 => by
      obtain ⟨a, b⟩ := g6 q hq1 hq2
      refine ⟨a, ?_⟩
      by_cases e : q = q2
      · subst e; exact absurd a o1
      · rw [e3 q e]; exact b) _ rfl X'
    exact ⟨t, hst t t1, t2⟩
end JCy
