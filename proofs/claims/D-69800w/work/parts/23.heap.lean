/-! what holds in the frame of a method -/
section JFx
variable {D : JD} {M : JM} {p : Program} {l : Launch} {s : State} {m : MethodId} {meth : Method} {c : Code}
theorem JFr.alike (hF : JFr D M l p s m meth c) : (jd0 D).vm.Alike s.vm := hF.2.2.1.alike
theorem JFr.word (hF : JFr D M l p s m meth c) {w : Cond} (hw : w ∈ lw_all) (args : Array Value) : w.before args s = true := by
  obtain ⟨b, hb, -⟩ := hF.2.1.1
  exact word_at hF.2.2.1 (good_of_word (List.mem_filter.mp hw).2) (hb w (lw_all_tbl hw))
theorem JFr.nestF (hF : JFr D M l p s m meth c) {a : String} {i : Nat} {b n d o : String} (hw : Cond.fieldLinkNest a i b n d o ∈ lw_tbl) (args : Array Value) : (Cond.fieldLinkNest a i b n d o).before args s = true := by
  obtain ⟨b, hb, -⟩ := hF.2.1.1
  exact va_Nw.use rfl (va_Nw.warmF hF.2.2.1 (va_Nw.of rfl (hb _ hw)))
theorem JFr.nestM (hF : JFr D M l p s m meth c) {a : String} {i : Nat} {x : MethodName} {o : String} (hw : Cond.methodLinkNest a i x o ∈ lw_tbl) (args : Array Value) : (Cond.methodLinkNest a i x o).before args s = true := by
  obtain ⟨b, hb, -⟩ := hF.2.1.1
  exact va_Nw.use rfl (va_Nw.warmM hF.2.2.1 (va_Nw.of rfl (hb _ hw)))
theorem JFr.fnd (hF : JFr D M l p s m meth c) {F : Nat} (h : F < 330) : jfnd s D F := by
  obtain ⟨cf, kf, fi, f, h1, h2, h3⟩ := hF.2.1.2.1 F h
  obtain ⟨kf', h4, -⟩ := State.fieldFound?_setVm (s := jd0 D) hF.alike h1
  exact ⟨cf, kf', fi, f, by simpa only [State.fieldFound?, State.vm_setVm] using h4, h2, h3⟩
theorem JFr.cls (hF : JFr D M l p s m meth c) {k : Nat} (h : job_ k = true) : jcls s D k := classAt_moved hF.alike (hF.2.1.2.2.1 k h)
theorem JFr.arr (hF : JFr D M l p s m meth c) (k : Nat) : jarr s D k := by
  intro ty hty
  obtain ⟨h1, kA, comp, h2, h3, h4⟩ := hF.2.1.2.2.2.1 k ty hty
  obtain ⟨k', hk', he⟩ := hF.alike.2.2 _ _ h2
  exact ⟨by rw [hF.alike.findClass]; exact h1, k', comp, hk', by rw [he]; exact h3, fun q => by rw [hF.alike.findClass]; exact h4 q⟩
theorem JFr.asg (hF : JFr D M l p s m meth c) : jasg s D := by
  intro k A ty comp h1 h2 h3 h4 h5
  rw [hF.alike.findClass] at h5
  obtain ⟨a1, ⟨k1, a2⟩, k2, a3⟩ := hF.2.1.2.2.2.2.1 k A ty comp h1 h2 h3 h4 h5
  obtain ⟨b1, c1, -⟩ := hF.alike.2.2 _ _ a2
  obtain ⟨b2, c2, -⟩ := hF.alike.2.2 _ _ a3
  exact ⟨by rw [hF.alike.assignable]; exact a1, ⟨b1, c1⟩, b2, c2⟩
end JFx
section JHp
variable {D : JD} {d : Nat} {M : JM} {pc pc' : Nat} {ls ls' : List (Option JV)} {st st' : List JV} {h h1 : JH} {Q : JO → JH → Prop}
/-- the general row: from h to h1 -/
theorem jw_st (h1I : JInv D h → (∀ v, some v ∈ ls → jok h v) → (∀ v ∈ st, jok h v) → JInv D h1 ∧ jle h h1 ∧ (∀ v, some v ∈ ls' → jok h1 v) ∧ (∀ v ∈ st', jok h1 v))
    (f : ∀ (p : Program) (l : Launch) (e : Env) (R : Room) (s : State) (m : MethodId) (args : Array Value) (below : List Frame) (meth : Method) (c : Code) (H : Heap) (locs : List Loc) (c0 u0 : Nat) (Z : State → Prop) (lsA : Array Slot) (K : Nat → Prop),
      JInv D h → (∀ v ∈ st, jok h v) → JFr D M l p s m meth c → JRl D h H → lv_has lsA (jmL M) (jasc 0 ls) → c0 ≤ jsz h → u0 ≤ jus h → jsz h1 - c0 ≤ R.cells → jus h1 - u0 ≤ R.slots → (∀ q ∈ locs, jbs D ≤ q.base) → JKp K s h H →
      (∀ (lsB : Array Slot) (H1 : Heap) (locs1 : List Loc), lv_has lsB (jmL M) (jasc 0 ls') → JRl D h1 H1 → (∀ q ∈ locs1, jbs D ≤ q.base) → JKp K s h1 H1 → W p l e R s m args below meth c H1 locs1 (jsz h1 - c0) (jus h1 - u0) Z (F0 m pc' lsB (st'.map vv))) →
      W p l e R s m args below meth c H locs (jsz h - c0) (jus h - u0) Z (F0 m pc lsA (st.map vv)))
    (k : JW D d M pc' ls' st' h1 Q) : JW D d M pc ls st h Q := by
  intro hI hl hs
  obtain ⟨i1, i2, i3, i4⟩ := h1I hI hl hs
  obtain ⟨r, h', hx, hq⟩ := k i1 i3 i4
  refine ⟨r, h', fun _ _ _ => ?_, hq⟩
  obtain ⟨⟨a1, a2, a3⟩, b⟩ := hx i1 i3 i4
  refine ⟨⟨a1, a2, i2.tr a3⟩, fun p l e R s m args below meth c H locs c0 u0 K lsA hF hR hL g1 g2 g3 g4 g5 g6 g7 g8 => ?_⟩
  refine f p l e R s m args below meth c H locs c0 u0 _ lsA K hI hs hF hR hL g5 g6 ?_ ?_ g7 g8 fun lsB H1 locs1 hB hR1 hl1 hK1 => ?_
  · have := a3.1; omega
  · have := a3.2.1; omega
  · exact b p l e R s m args below meth c H1 locs1 c0 u0 K lsB hF hR1 hB g1 g2 g3 g4 (Nat.le_trans g5 i2.1) (Nat.le_trans g6 i2.2.1) hl1 hK1
/-- an object of the static class of a field -/
theorem jobj {F t r : Nat} (hI : JInv D h) (hlt : F < 330) (hv : jok h (vR t r)) (hr : r ≠ 0) (ht : sbt t (fcl F) = true) : jkd h r < 226 ∧ job_ (jkd h r) = true ∧ F ∈ fld (jkd h r) ∧ aty (jkd h r) = none ∧ sbt (jkd h r) t = true := by
  rcases hv with e | e
  · exact absurd e hr
  have e : sbt (jkd h r) t = true := e
  have h1 := sbt_trans e ht
  have h2 := sbt_lt e
  have h3 := (hI.1 r (sbt_ne0 e)).2.2
  have h4 : job_ (jkd h r) = true := by
    rcases jt_kk0 _ h2 h3 with hj | hj | hj
    · exact hj
    · have := jt_arrs0 _ h2 hj _ (sbt_iff.mp h1)
      rw [jt_fclc F hlt] at this
      cases this
    · have := sbt_iff.mp h1
      rw [hj] at this
      exact jt_kf0 F hlt _ h2 (by simpa using this) h3
  exact ⟨h2, h4, jt_fld0 hlt h2 h4 (sbt_iff.mp h1), (jt_cls0 _ h2 h4).1, e⟩
theorem jcell {r : Nat} {H : Heap} (hR : JRl D h H) (hk : jkd h r ≠ 0) (hr : r ≠ 0) : ∃ q cell, r = q + 1 ∧ H[q]? = some cell ∧ JCell D h r cell := by
  cases r with
  | zero => exact absurd rfl hr
  | succ q =>
    obtain ⟨cell, h1, h2⟩ := hR.2.2 q hk
    exact ⟨q, cell, rfl, h1, h2⟩
theorem jw_getf {F idx t r : Nat} {x : JV} (hd : jmT M pc = some (.getfield idx, 3)) (hf : jmF M idx = some F) (ht : sbt t (fcl F) = true) (hr : r ≠ 0) (hx : vv x = jfv h F r) (hxo : JInv D h → jok h x)
    (k : JW D d M pc' ls (x :: st) h Q) (hp : pc + 3 = pc' := by rfl) : JW D d M pc ls (vR t r :: st) h Q := by
  subst hp
  refine jw_st (fun hI hl hs => ⟨hI, jle.rf h, hl, fun v hv => ?_⟩) (fun p l e R s m args below meth c H locs c0 u0 Z lsA K hI hs hF hR hL g1 g2 g3 g4 g5 g6 kk => ?_) k
  · rcases List.mem_cons.mp hv with q | q
    · rw [q]; exact hxo hI
    · exact hs v (List.mem_cons_of_mem _ q)
  · obtain ⟨hlt, ref, hsame, hlink⟩ := hF.2.2.2.1.2.2.2.2.2.1 idx F hf
    obtain ⟨o1, o2, o3, o4, o5⟩ := jobj hI hlt (hs _ List.mem_cons_self) hr ht
    obtain ⟨q, cell, rfl, hc, hcell⟩ := jcell hR (sbt_ne0 o5) hr
    obtain ⟨cf, kf, fi, f, e1, e2, e3⟩ := hF.fnd hlt
    have e1' : s.fieldFound? ref (fnm F) (fds F) = some (cf, kf, fi, f) := by
      rcases hsame with z | z
      · rw [z]; exact e1
      · exact u_same (hF.word z args) _ e1
    have hsl : cell.slots[f.slot]? = some (vv x) := by rw [e3, hcell.2.2.2.2.1 o4 F o3, hx]
    have kk := kk lsA H locs hL hR g5 g6
    have hdec := hF.2.2.2.1.1 _ _ hd
    rcases hlink with z | ⟨host, z⟩
    · exact W.getf hF.1 hF.2.2.2.2.1 hF.2.2.2.2.2.2.2.2.2.1 (hF.word z args) e1' e2 hc hcell.2.1 hsl rfl rfl hdec kk
    · exact va_Wgetf hF.1 hF.2.2.2.2.1 hF.2.2.2.2.2.2.2.2.2.1 (hF.nestF z args) e1' e2 hc hcell.2.1 hsl rfl rfl hdec kk
theorem jw_getI {F idx t r : Nat} (hd : jmT M pc = some (.getfield idx, 3)) (hf : jmF M idx = some F) (ht : sbt t (fcl F) = true) (htk : ftk F = 0) (hr : r ≠ 0) (k : JW D d M pc' ls (vI (jfi h F r) :: st) h Q) (hp : pc + 3 = pc' := by rfl) : JW D d M pc ls (vR t r :: st) h Q :=
  jw_getf (x := vI _) hd hf ht hr (by unfold jfv; rw [htk]; rfl) (fun _ => trivial) k hp
theorem jw_getL {F idx t r : Nat} (hd : jmT M pc = some (.getfield idx, 3)) (hf : jmF M idx = some F) (ht : sbt t (fcl F) = true) (htk : ftk F = 1) (hr : r ≠ 0) (k : JW D d M pc' ls (vL (jfl h F r) :: st) h Q) (hp : pc + 3 = pc' := by rfl) : JW D d M pc ls (vR t r :: st) h Q :=
  jw_getf (x := vL _) hd hf ht hr (by unfold jfv; rw [htk]; rfl) (fun _ => trivial) k hp
theorem jw_getR {F idx t r t' : Nat} (hd : jmT M pc = some (.getfield idx, 3)) (hf : jmF M idx = some F) (ht : sbt t (fcl F) = true) (htk : ftk F = 2) (htg : ftg F = t') (hr : r ≠ 0) (k : JW D d M pc' ls (vR t' (jfr h F r) :: st) h Q) (hp : pc + 3 = pc' := by rfl) : JW D d M pc ls (vR t r :: st) h Q :=
  jw_getf (x := vR _ _) hd hf ht hr (by unfold jfv; rw [htk]; rfl) (fun hI => by rw [← htg]; exact hI.2.2.1 F r) k hp
/-- h1 is h but for the field F of r, which holds x -/
def jhf (h h1 : JH) (F r : Nat) (x : Value) : Prop := (∀ q, jkd h1 q = jkd h q) ∧ (∀ q, jln h1 q = jln h q) ∧ jsz h1 = jsz h ∧ jus h1 = jus h ∧ (∀ q i, jev h1 q i = jev h q i) ∧ (∀ G q, G ≠ F ∨ q ≠ r → jfv h1 G q = jfv h G q) ∧ jfv h1 F r = x ∧ ∀ q, jfi h1 330 q = jfi h 330 q
theorem jslot_ne {s : State} {p : Program} {l : Launch} {m : MethodId} {meth : Method} {c : Code} {F G k : Nat} (hF : JFr D M l p s m meth c) (hk : k < 226) (hj : job_ k = true) (hw : wrt k = true) (hFk : F ∈ fld k) (hGk : G ∈ fld k) (hFl : F < 330) (hGl : G < 330) (hne : F ≠ G) : jsl D F ≠ jsl D G := by
  obtain ⟨cf, kf, fi, f, e1, e2, e3⟩ := hF.fnd hFl
  obtain ⟨cg, kg, gi, g, b1, b2, b3⟩ := hF.fnd hGl
  have lay : ∀ X ∈ fld k, (Cond.lays (jcn k) (fow X) (fnm X) (fds X)).before #[] s = true ∨ (Cond.laysFinal (jcn k) (fow X) (fnm X) (fds X)).before #[] s = true := by
    intro X hX
    have := hF.word (jt_lay hk hj hw hX) #[]
    unfold jlw at this
    cases hf : ffn X with
    | true => rw [hf] at this; exact Or.inr this
    | false => rw [hf] at this; exact Or.inl this
  rw [← e3, ← b3]
  refine u_apart (lay F hFk) (lay G hGk) e1 b1 ?_
  rw [(State.fieldFound?_type e1 (jt_ftg0 F hFl).2).1, (State.fieldFound?_type b1 (jt_ftg0 G hGl).2).1]
  exact jt_inj0 k hk F hFk G hGk hne
theorem jt_fldlt0 : ((List.range 226).all fun k => (fld k).all fun F => Nat.blt F 330) = true := by decide +kernel
theorem jt_fldlt {k F : Nat} (hk : k < 226) (h : F ∈ fld k) : F < 330 := by
  have := List.all_eq_true.mp (List.all_eq_true.mp jt_fldlt0 k (List.mem_range.mpr hk)) F h
  simp [Nat.blt] at this
  omega
/-- the cells behind a store into a field -/
theorem jt_fx0 : ((List.range 226).all fun k => !(jexc k) || (fld k).all fun F => jxf F) = true := by decide +kernel
theorem jt_fx {k F : Nat} (hk : k < 226) (hF : F ∈ fld k) (hx : jxf F = false) : jexc k = false := by
  cases he : jexc k with
  | false => rfl
  | true =>
    have h := List.all_eq_true.mp jt_fx0 k (List.mem_range.mpr hk)
    rw [he] at h
    have h := List.all_eq_true.mp h F hF
    rw [hx] at h; cases h
theorem jrl_put {s : State} {p : Program} {l : Launch} {m : MethodId} {meth : Method} {c : Code} {F q : Nat} {x : Value} {H H1 : Heap} {cell : Cell} (hF : JFr D M l p s m meth c) (hI : JInv D h) (hR : JRl D h H) (hh : jhf h h1 F (q + 1) x) (hk : jkd h (q + 1) < 226) (hj : job_ (jkd h (q + 1)) = true) (hw : wrt (jkd h (q + 1)) = true) (hFk : F ∈ fld (jkd h (q + 1))) (hx : jxf F = false ∨ jfi h 330 (q + 1) ≠ 0)
    (hc : H[q]? = some cell) (hcell : JCell D h (q + 1) cell) (e1 : H1[q]? = some (cell.setSlot (jsl D F) x)) (e2 : H1.size = H.size) (e3 : ∀ a, a ≠ q → H1[a]? = H[a]?) : JRl D h1 H1 := by
  obtain ⟨k1, k2, k3, k4, k5, k6, k7, k8⟩ := hh
  have hFl := jt_fldlt hk hFk
  refine ⟨by rw [e2, k3]; exact hR.1, fun a ha => ?_, fun a ha => ?_⟩
  · rw [e3 a (fun z => by have := hI.2.1 (q + 1) hw; omega)]
    exact hR.2.1 a ha
  · rw [k1] at ha
    by_cases haq : a = q
    · subst haq
      refine ⟨_, e1, ?_⟩
      obtain ⟨c1, c2, c3, c4, c5, c6⟩ := hcell
      refine ⟨by rw [k1]; exact c1, c2, c3, by
        rw [k1]
        refine fun z => ⟨(c4 z).1, fun y1 y2 => ?_⟩
        rw [k1] at y1
        rw [k8] at y2
        rcases hx with w | w
        · rw [jt_fx hk hFk w] at y1; cases y1
        · exact absurd y2 w, fun z G hG => ?_, fun z => ?_⟩
      · rw [k1] at z hG
        by_cases hGF : G = F
        · subst hGF
          rw [k7]
          have hsl := c5 z G hG
          simp only [Cell.setSlot]
          have hlt : jsl D G < cell.slots.size := (Array.getElem?_eq_some_iff.mp hsl).1
          simp [Array.getElem?_setIfInBounds, hlt]
        · rw [k6 G _ (Or.inl hGF)]
          have hne := jslot_ne hF hk hj hw hFk hG hFl (jt_fldlt hk hG) (Ne.symm hGF)
          simp only [Cell.setSlot]
          rw [Array.getElem?_setIfInBounds_ne hne]
          exact c5 z G hG
      · rw [k1] at z
        exact absurd (jt_cls0 _ hk hj).1 z
    · obtain ⟨cl, d1, d2⟩ := hR.2.2 a ha
      refine ⟨cl, by rw [e3 a haq]; exact d1, ?_⟩
      obtain ⟨c1, c2, c3, c4, c5, c6⟩ := d2
      refine ⟨by rw [k1]; exact c1, c2, c3, by rw [k1]; exact fun z => ⟨(c4 z).1, (c4 z).2.of (k1 _) (k8 _)⟩, fun z G hG => ?_, fun z => ?_⟩
      · rw [k1] at z hG
        rw [k6 G _ (Or.inr (fun w => haq (by omega)))]
        exact c5 z G hG
      · rw [k1] at z
        rw [k2]
        exact ⟨(c6 z).1, fun i hi => by rw [k5]; exact (c6 z).2 i hi⟩
theorem jw_putf {F idx t r : Nat} {x : JV} (hd : jmT M pc = some (.putfield idx, 3)) (hf : jmF M idx = some F) (ht : sbt t (fcl F) = true) (hw : wrt (jkd h r) = true ∨ wtg t = true) (hfin : ffn F = false ∨ ((jmY M).name = "<init>" ∧ fow F = (jmY M).cls)) (hr : r ≠ 0)
    (hn : narrow (fty F) (vv x) = vv x) (hft : fits (fty F) (vv x) = true) (hh : jhf h h1 F r (vv x)) (h1I : JInv D h → (∀ v ∈ (x :: vR t r :: st), jok h v) → jbs D < r → r ≤ jsz h → JInv D h1)
    (k : JW D d M pc' ls st h1 Q) (hp : pc + 3 = pc' := by rfl) (hx : jxf F = false ∨ jfi h 330 r ≠ 0 := by exact Or.inl rfl) : JW D d M pc ls (x :: vR t r :: st) h Q := by
  subst hp
  have hwr : JInv D h → jok h (vR t r) → wrt (jkd h r) = true := fun hI hv => by
    rcases hw with z | z
    · exact z
    · rcases hv with e | e
      · exact absurd e hr
      · have e : sbt (jkd h r) t = true := e
        exact jt_wtg0 _ (sbt_lt e) (hI.1 r (sbt_ne0 e)).2.2 t (sbt_iff.mp e) z
  have hle : jle h h1 := ⟨by rw [hh.2.2.1]; exact Nat.le_refl _, by rw [hh.2.2.2.1]; exact Nat.le_refl _, fun q _ => hh.1 q⟩
  refine jw_st (fun hI hl hs => ?_) (fun p l e R s m args below meth c H locs c0 u0 Z lsA K hI hs hF hR hL g1 g2 g3 g4 g5 g6 kk => ?_) k
  · have hrv := hs _ (List.mem_cons_of_mem _ List.mem_cons_self)
    have hkd : jkd h r ≠ 0 := by
      rcases hrv with e | e
      · exact absurd e hr
      · exact sbt_ne0 e
    exact ⟨h1I hI hs (hI.2.1 r (hwr hI hrv)) (hI.1 r hkd).2.1, hle, fun v hv => (hl v hv).le hle, fun v hv => (hs v (by simp [hv])).le hle⟩
  · obtain ⟨hlt, ref, hsame, hlink⟩ := hF.2.2.2.1.2.2.2.2.2.1 idx F hf
    have hrv := hs _ (List.mem_cons_of_mem _ List.mem_cons_self)
    obtain ⟨o1, o2, o3, o4, o5⟩ := jobj hI hlt hrv hr ht
    obtain ⟨q, cell, rfl, hc, hcell⟩ := jcell hR (sbt_ne0 o5) hr
    have hwq := hwr hI hrv
    obtain ⟨cf, kf, fi, f, e1, e2, e3⟩ := hF.fnd hlt
    have e1' : s.fieldFound? ref (fnm F) (fds F) = some (cf, kf, fi, f) := by
      rcases hsame with z | z
      · rw [z]; exact e1
      · exact u_same (hF.word z args) _ e1
    obtain ⟨hfc, kC, hkC, hkind⟩ := hF.cls o2
    have hlay := hF.word (jt_lay o1 o2 hwq o3) args
    have hlay2 : (Cond.lays (jcn (jkd h (q + 1))) (fow F) (fnm F) (fds F)).before args s = true ∨ (Cond.laysFinal (jcn (jkd h (q + 1))) (fow F) (fnm F) (fds F)).before args s = true := by
      unfold jlw at hlay
      cases hff : ffn F with
      | true => rw [hff] at hlay; exact Or.inr hlay
      | false => rw [hff] at hlay; exact Or.inl hlay
    have hfit := u_fits hfc hkC hkind hlay2 e1 (jt_ftg0 F hlt).2 hn hft
    have hfinal : hasFlag f.accessFlags Acc.final = false ∨ (m.cls = cf ∧ meth.name = "<init>") := by
      cases hff : ffn F with
      | false =>
        unfold jlw at hlay
        rw [hff] at hlay
        exact Or.inl (u_store hfc hkC hkind hlay e1 (jt_ftg0 F hlt).2 hn hft).1
      | true =>
        rcases hfin with z | ⟨z1, z2⟩
        · rw [hff] at z; cases z
        · refine Or.inr ⟨?_, by rw [hF.2.2.2.2.2.2.2.2.1]; exact z1⟩
          unfold jlw at hlay
          rw [hff] at hlay
          obtain ⟨_, _, c', _, _, _, -, -, hf', -, -, -, hown2, -⟩ := Cond.laysFinal_spec hlay
          have e1 : c' = cf := by have := e1.symm.trans hf'; simp at this; exact this.1.symm
          rw [z2] at hown2
          rw [← e1]; exact Option.some.inj (hF.2.2.2.2.2.2.2.2.2.1.symm.trans hown2)
    have hlt2 : f.slot < cell.slots.size := by rw [e3]; exact (Array.getElem?_eq_some_iff.mp (hcell.2.2.2.2.1 o4 F o3)).1
    have hq : q < H.size := (Array.getElem?_eq_some_iff.mp hc).1
    have kk' : W p l e R s m args below meth c (H.setIfInBounds q (cell.setSlot f.slot (vv x))) (locs ++ [⟨q, f.slot⟩]) (jsz h - c0) (jus h - u0) Z (F0 m (pc + 3) lsA (st.map vv)) := by
      have z := kk lsA (H.setIfInBounds q (cell.setSlot f.slot (vv x))) (locs ++ [⟨q, f.slot⟩]) hL ?_ ?_ ?_
      · rw [hh.2.2.1, hh.2.2.2.1] at z; exact z
      · refine jrl_put hF hI hR hh o1 o2 hwq o3 hx hc hcell ?_ (by simp) (fun a ha => by simp [Array.getElem?_setIfInBounds, Ne.symm ha])
        rw [e3]; simp [Array.getElem?_setIfInBounds, hq]
      · intro z hz
        rcases List.mem_append.mp hz with w | w
        · exact g5 z w
        · simp at w; rw [w]; show jbs D ≤ q
          have := hI.2.1 (q + 1) hwq
          omega
      · intro z hz1 hz2
        obtain ⟨w1, w2⟩ := g6 z hz1 hz2
        refine ⟨by rw [hh.1]; exact w1, ?_⟩
        rw [Array.getElem?_setIfInBounds_ne (fun w => by subst w; exact (sbt_ne0 o5) w1)]
        exact w2
    have hdec := hF.2.2.2.1.1 _ _ hd
    have hvm := (hcell.2.2.2.1 hwq).1
    rcases hlink with z | ⟨host, z⟩
    · exact W.putf hF.1 hF.2.2.2.2.1 hF.2.2.2.2.2.2.2.2.2.1 (hF.word z args) e1' e2 hfinal hc hcell.2.1 hlt2 hfit.1 (by rw [hcell.1, hvm]; exact hfit.2) rfl rfl hdec kk'
    · exact va_Wputf hF.1 hF.2.2.2.2.1 hF.2.2.2.2.2.2.2.2.2.1 (hF.nestF z args) e1' e2 hfinal hc hcell.2.1 hlt2 hfit.1 (by rw [hcell.1, hvm]; exact hfit.2) rfl rfl hdec kk'
theorem jhf_wfi {F r : Nat} {v : Int32} (htk : ftk F = 0) (hlt : F ≠ 330) : jhf h (wfi h F r v) F r (.int v) := by
  refine ⟨fun _ => rfl, fun _ => rfl, rfl, rfl, fun _ _ => rfl, fun G q hq => ?_, ?_, fun q => if_neg (fun z => hlt z.1.symm)⟩
  · unfold jfv
    have e : jfi (wfi h F r v) G q = jfi h G q := by
      show (if G = F ∧ q = r then v else jfi h G q) = _
      rw [if_neg (fun z => by rcases hq with w | w; exact w z.1; exact w z.2)]
    rcases hk : ftk G with _ | _ | n
    · rw [e]; rfl
    · rfl
    · rfl
  · unfold jfv
    rw [htk]
    have e : jfi (wfi h F r v) F r = v := by
      show (if F = F ∧ r = r then v else jfi h F r) = _
      rw [if_pos ⟨rfl, rfl⟩]
    show Value.int _ = _; rw [e]
theorem jhf_wfl {F r : Nat} {v : Int64} (htk : ftk F = 1) : jhf h (wfl h F r v) F r (.long v) := by
  refine ⟨fun _ => rfl, fun _ => rfl, rfl, rfl, fun _ _ => rfl, fun G q hq => ?_, ?_, fun _ => rfl⟩
  · unfold jfv
    have e : jfl (wfl h F r v) G q = jfl h G q := by
      show (if G = F ∧ q = r then v else jfl h G q) = _
      rw [if_neg (fun z => by rcases hq with w | w; exact w z.1; exact w z.2)]
    rcases hk : ftk G with _ | _ | n
    · rfl
    · rw [e]; rfl
    · rfl
  · unfold jfv
    rw [htk]
    have e : jfl (wfl h F r v) F r = v := by
      show (if F = F ∧ r = r then v else jfl h F r) = _
      rw [if_pos ⟨rfl, rfl⟩]
    show Value.long _ = _; rw [e]
theorem jhf_wfr {F r : Nat} {v : Nat} (htk : ftk F = 2) : jhf h (wfr h F r v) F r (rv v) := by
  refine ⟨fun _ => rfl, fun _ => rfl, rfl, rfl, fun _ _ => rfl, fun G q hq => ?_, ?_, fun _ => rfl⟩
  · unfold jfv
    have e : jfr (wfr h F r v) G q = jfr h G q := by
      show (if G = F ∧ q = r then v else jfr h G q) = _
      rw [if_neg (fun z => by rcases hq with w | w; exact w z.1; exact w z.2)]
    rcases hk : ftk G with _ | _ | n
    · rfl
    · rfl
    · show rv _ = rv _; rw [e]
  · unfold jfv
    rw [htk]
    have e : jfr (wfr h F r v) F r = v := by
      show (if F = F ∧ r = r then v else jfr h F r) = _
      rw [if_pos ⟨rfl, rfl⟩]
    show rv _ = _; rw [e]
theorem JInv.wfi {F r : Nat} {v : Int32} (hI : JInv D h) (hb : jbs D < r) (hz : r ≤ jsz h) : JInv D (wfi h F r v) := by
  obtain ⟨i1, i2, i3, i4, i5, i6, i7⟩ := hI
  refine ⟨i1, i2, i3, i4, fun q hq => ⟨fun G => ?_, (i5 q hq).2⟩, fun q hq => ⟨(i6 q hq).1, (i6 q hq).2.1, fun G => ?_, (i6 q hq).2.2.2⟩, i7⟩
  · have hq : jsz h < q := hq
    exact ⟨by show (if G = F ∧ q = r then v else jfi h G q) = 0; rw [if_neg (fun z => by omega)]; exact ((i5 q hq).1 G).1, ((i5 q hq).1 G).2⟩
  · exact ⟨by show (if G = F ∧ q = r then v else jfi h G q) = _; rw [if_neg (fun z => by omega)]; exact ((i6 q hq).2.2.1 G).1, ((i6 q hq).2.2.1 G).2⟩
theorem JInv.wfl {F r : Nat} {v : Int64} (hI : JInv D h) (hb : jbs D < r) (hz : r ≤ jsz h) : JInv D (wfl h F r v) := by
  obtain ⟨i1, i2, i3, i4, i5, i6, i7⟩ := hI
  refine ⟨i1, i2, i3, i4, fun q hq => ⟨fun G => ?_, (i5 q hq).2⟩, fun q hq => ⟨(i6 q hq).1, (i6 q hq).2.1, fun G => ?_, (i6 q hq).2.2.2⟩, i7⟩
  · have hq : jsz h < q := hq
    exact ⟨((i5 q hq).1 G).1, by show (if G = F ∧ q = r then v else jfl h G q) = 0; rw [if_neg (fun z => by omega)]; exact ((i5 q hq).1 G).2.1, ((i5 q hq).1 G).2.2⟩
  · exact ⟨((i6 q hq).2.2.1 G).1, by show (if G = F ∧ q = r then v else jfl h G q) = _; rw [if_neg (fun z => by omega)]; exact ((i6 q hq).2.2.1 G).2.1, ((i6 q hq).2.2.1 G).2.2⟩
theorem JInv.wfr {F r : Nat} {v : Nat} (hI : JInv D h) (hb : jbs D < r) (hz : r ≤ jsz h) (hv : v = 0 ∨ sbt (jkd h v) (ftg F) = true) : JInv D (wfr h F r v) := by
  obtain ⟨i1, i2, i3, i4, i5, i6, i7⟩ := hI
  refine ⟨i1, i2, fun G q => by
      show (if G = F ∧ q = r then v else jfr h G q) = 0 ∨ sbt (jkd h (if G = F ∧ q = r then v else jfr h G q)) (ftg G) = true
      by_cases hc : G = F ∧ q = r
      · rw [if_pos hc, hc.1]; exact hv
      · rw [if_neg hc]; exact i3 G q, i4, fun q hq => ⟨fun G => ?_, (i5 q hq).2⟩, fun q hq => ⟨(i6 q hq).1, (i6 q hq).2.1, fun G => ?_, (i6 q hq).2.2.2⟩, i7⟩
  · have hq : jsz h < q := hq
    exact ⟨((i5 q hq).1 G).1, ((i5 q hq).1 G).2.1, by show (if G = F ∧ q = r then v else jfr h G q) = 0; rw [if_neg (fun z => by omega)]; exact ((i5 q hq).1 G).2.2⟩
  · exact ⟨((i6 q hq).2.2.1 G).1, ((i6 q hq).2.2.1 G).2.1, by show (if G = F ∧ q = r then v else jfr h G q) = _; rw [if_neg (fun z => by omega)]; exact ((i6 q hq).2.2.1 G).2.2⟩
theorem jw_putI {F idx t r : Nat} {v : Int32} (hd : jmT M pc = some (.putfield idx, 3)) (hf : jmF M idx = some F) (ht : sbt t (fcl F) = true) (hw : wrt (jkd h r) = true ∨ wtg t = true) (hfin : ffn F = false ∨ ((jmY M).name = "<init>" ∧ fow F = (jmY M).cls)) (htk : ftk F = 0) (hn : narrow (fty F) (.int v) = .int v) (hft : fits (fty F) (.int v) = true) (hr : r ≠ 0)
    (k : JW D d M pc' ls st (wfi h F r v) Q) (hp : pc + 3 = pc' := by rfl) (hlt : Nat.ble F 329 = true := by rfl) (hx : jxf F = false ∨ jfi h 330 r ≠ 0 := by exact Or.inl rfl) : JW D d M pc ls (vI v :: vR t r :: st) h Q :=
  jw_putf (x := vI v) hd hf ht hw hfin hr hn hft (jhf_wfi htk (fun z => by rw [z] at hlt; cases hlt)) (fun hI _ hb hz => hI.wfi hb hz) k hp hx
theorem jw_putL {F idx t r : Nat} {v : Int64} (hd : jmT M pc = some (.putfield idx, 3)) (hf : jmF M idx = some F) (ht : sbt t (fcl F) = true) (hw : wrt (jkd h r) = true ∨ wtg t = true) (hfin : ffn F = false ∨ ((jmY M).name = "<init>" ∧ fow F = (jmY M).cls)) (htk : ftk F = 1) (hn : narrow (fty F) (.long v) = .long v) (hft : fits (fty F) (.long v) = true) (hr : r ≠ 0)
    (k : JW D d M pc' ls st (wfl h F r v) Q) (hp : pc + 3 = pc' := by rfl) (hx : jxf F = false ∨ jfi h 330 r ≠ 0 := by exact Or.inl rfl) : JW D d M pc ls (vL v :: vR t r :: st) h Q :=
  jw_putf (x := vL v) hd hf ht hw hfin hr hn hft (jhf_wfl htk) (fun hI _ hb hz => hI.wfl hb hz) k hp hx
theorem jn_ref {ty : FieldType} (h : ty.isReference = true) (r : Nat) : narrow ty (rv r) = rv r ∧ fits ty (rv r) = true := by
  cases ty <;> first | (cases h; done) | (cases r <;> exact ⟨rfl, rfl⟩)
theorem jw_putR {F idx t r t2 v : Nat} (hd : jmT M pc = some (.putfield idx, 3)) (hf : jmF M idx = some F) (ht : sbt t (fcl F) = true) (hw : wrt (jkd h r) = true ∨ wtg t = true) (hfin : ffn F = false ∨ ((jmY M).name = "<init>" ∧ fow F = (jmY M).cls)) (htk : ftk F = 2) (hlt : Nat.ble F 329 = true) (h2 : sbt t2 (ftg F) = true) (hr : r ≠ 0)
    (k : JW D d M pc' ls st (wfr h F r v) Q) (hp : pc + 3 = pc' := by rfl) (hx : jxf F = false ∨ jfi h 330 r ≠ 0 := by exact Or.inl rfl) : JW D d M pc ls (vR t2 v :: vR t r :: st) h Q := by
  have hlt : F < 330 := Nat.lt_succ_of_le (Nat.ble_eq.mp hlt)
  have hz := jn_ref (jt_fref0 F hlt htk) v
  exact jw_putf (x := vR t2 v) hd hf ht hw hfin hr hz.1 hz.2 (jhf_wfr htk) (fun hI hs hb hz => hI.wfr hb hz (by
    rcases hs _ List.mem_cons_self with e | e
    · exact Or.inl e
    · exact Or.inr (sbt_trans e h2))) k hp hx
end JHp
