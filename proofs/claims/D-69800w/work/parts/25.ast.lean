/-! stores into arrays -/
section JAs
variable {D : JD} {d : Nat} {M : JM} {pc pc' : Nat} {ls ls' : List (Option JV)} {st st' : List JV} {h h1 : JH} {Q : JO → JH → Prop}
def jha (h h1 : JH) (r i : Nat) (x : Value) : Prop := (∀ q, jkd h1 q = jkd h q) ∧ (∀ q, jln h1 q = jln h q) ∧ jsz h1 = jsz h ∧ jus h1 = jus h ∧ (∀ G q, jfv h1 G q = jfv h G q) ∧ (∀ q n, q ≠ r ∨ n ≠ i → jev h1 q n = jev h q n) ∧ jev h1 r i = x ∧ ∀ q, jfi h1 330 q = jfi h 330 q
theorem jrl_ast {q i : Nat} {x : Value} {H H1 : Heap} {cell : Cell} (hI : JInv D h) (hR : JRl D h H) (hh : jha h h1 (q + 1) i x) (hk : jkd h (q + 1) ≠ 0) (hw : wrt (jkd h (q + 1)) = true) (hty : aty (jkd h (q + 1)) ≠ none) (hi : i < jln h (q + 1))
    (hcell : JCell D h (q + 1) cell) (e1 : H1[q]? = some (cell.setSlot i x)) (e2 : H1.size = H.size) (e3 : ∀ a, a ≠ q → H1[a]? = H[a]?) : JRl D h1 H1 := by
  obtain ⟨k1, k2, k3, k4, k5, k6, k7, k8⟩ := hh
  refine ⟨by rw [e2, k3]; exact hR.1, fun a ha => ?_, fun a ha => ?_⟩
  · rw [e3 a (fun z => by have := hI.2.1 (q + 1) hw; omega)]
    exact hR.2.1 a ha
  · rw [k1] at ha
    by_cases haq : a = q
    · subst haq
      refine ⟨_, e1, ?_⟩
      obtain ⟨c1, c2, c3, c4, c5, c6⟩ := hcell
      refine ⟨by rw [k1]; exact c1, c2, c3, by
        rw [k1]
        refine fun z => ⟨(c4 z).1, fun y1 y2 => ?_⟩
        rw [k1] at y1
        exact absurd (jexc_aty y1) hty, fun z => ?_, fun z => ?_⟩
      · rw [k1] at z; exact absurd z hty
      · rw [k1] at z
        obtain ⟨d1, d2⟩ := c6 z
        rw [k2]
        simp only [Cell.setSlot]
        refine ⟨by simp [d1], fun n hn => ?_⟩
        by_cases hni : n = i
        · subst hni
          rw [k7]
          have : n < cell.slots.size := by omega
          simp [Array.getElem?_setIfInBounds, this]
        · rw [k6 _ n (Or.inr hni), Array.getElem?_setIfInBounds_ne (Ne.symm hni)]
          exact d2 n hn
    · obtain ⟨cl, d1, d2⟩ := hR.2.2 a ha
      refine ⟨cl, by rw [e3 a haq]; exact d1, ?_⟩
      obtain ⟨c1, c2, c3, c4, c5, c6⟩ := d2
      refine ⟨by rw [k1]; exact c1, c2, c3, by rw [k1]; exact fun z => ⟨(c4 z).1, (c4 z).2.of (k1 _) (k8 _)⟩, fun z G hG => ?_, fun z => ?_⟩
      · rw [k1] at z hG
        rw [k5]
        exact c5 z G hG
      · rw [k1] at z
        rw [k2]
        exact ⟨(c6 z).1, fun n hn => by rw [k6 _ n (Or.inl (fun w => haq (by omega)))]; exact (c6 z).2 n hn⟩
theorem jw_ast {t r i : Nat} {j : Int32} {x : JV} {xv : Value} {ty : FieldType} (ht : jar_ t = true) (hty : aty t = some ty) (hw : wtg t = true) (hr : r ≠ 0) (hj : jix j i) (hi : i < jln h r) (hh : jha h h1 r i xv) (h1I : JInv D h → (∀ v ∈ (x :: vI j :: vR t r :: st), jok h v) → jbs D < r → r ≤ jsz h → JInv D h1)
    (f : ∀ (p : Program) (l : Launch) (e : Env) (R : Room) (s : State) (m : MethodId) (args : Array Value) (below : List Frame) (meth : Method) (c : Code) (H : Heap) (locs : List Loc) (cells slots : Nat) (Z : State → Prop) (lsA : Array Slot) (q : Nat) (cell : Cell),
      JInv D h → (∀ v ∈ (x :: vI j :: vR t r :: st), jok h v) → JFr D M l p s m meth c → JRl D h H → r = q + 1 → H[q]? = some cell → JCell D h (q + 1) cell → s.isArrayOf cell ty → ¬ (j < 0 ∨ cell.slots.size ≤ j.toNatClampNeg) → jkd h (q + 1) < 226 → aty (jkd h (q + 1)) = some ty → atk (jkd h (q + 1)) = atk t → atg (jkd h (q + 1)) = atg t →
      (∀ H' : Heap, H'[q]? = some (cell.setSlot j.toNatClampNeg xv) → H'.size = H.size → (∀ a, a ≠ q → H'[a]? = H[a]?) → W p l e R s m args below meth c H' (locs ++ [⟨q, j.toNatClampNeg⟩]) cells slots Z (F0 m pc' lsA (st.map vv))) →
      W p l e R s m args below meth c H locs cells slots Z (F0 m pc lsA ((x :: vI j :: vR t r :: st).map vv)))
    (k : JW D d M pc' ls st h1 Q) : JW D d M pc ls (x :: vI j :: vR t r :: st) h Q := by
  have hwr : JInv D h → jok h (vR t r) → wrt (jkd h r) = true := fun hI hv => by
    rcases hv with e | e
    · exact absurd e hr
    · have e : sbt (jkd h r) t = true := e
      exact jt_wtg0 _ (sbt_lt e) (hI.1 r (sbt_ne0 e)).2.2 t (sbt_iff.mp e) hw
  have hle : jle h h1 := ⟨by rw [hh.2.2.1]; exact Nat.le_refl _, by rw [hh.2.2.2.1]; exact Nat.le_refl _, fun q _ => hh.1 q⟩
  refine jw_st (fun hI hl hs => ?_) (fun p l e R s m args below meth c H locs c0 u0 Z lsA K hI hs hF hR hL g1 g2 g3 g4 g5 g6 kk => ?_) k
  · have hrv := hs (vR t r) (by simp)
    exact ⟨h1I hI hs (hI.2.1 r (hwr hI hrv)) (hI.1 r (jarrobj hrv hr ht).1).2.1, hle, fun v hv => (hl v hv).le hle, fun v hv => (hs v (by simp [hv])).le hle⟩
  · have hrv := hs (vR t r) (by simp)
    obtain ⟨o1, o2, o3, o4, o5⟩ := jarrobj hrv hr ht
    obtain ⟨q, cell, rfl, hc, hcell⟩ := jcell hR o1 hr
    have hty' := o3.trans hty
    have hsz := (hcell.2.2.2.2.2 (by rw [hty']; simp)).1
    have hwq := hwr hI hrv
    refine f p l e R s m args below meth c H locs _ _ Z lsA q cell hI hs hF hR rfl hc hcell (jisarr hF hcell hty') (by rw [hsz, hj.2]; exact fun z => by rcases z with z | z; exact hj.1 z; omega) o2 hty' o4 o5 fun H' e1 e2 e3 => ?_
    have z := kk lsA H' (locs ++ [⟨q, j.toNatClampNeg⟩]) hL (jrl_ast hI hR hh o1 hwq (by rw [hty']; simp) hi hcell (by rw [← hj.2]; exact e1) e2 e3) ?_ ?_
    · rw [hh.2.2.1, hh.2.2.2.1] at z; exact z
    · intro z hz
      rcases List.mem_append.mp hz with w | w
      · exact g5 z w
      · simp at w; rw [w]; show jbs D ≤ q
        have := hI.2.1 (q + 1) hwq
        omega
    · intro z hz1 hz2
      obtain ⟨w1, w2⟩ := g6 z hz1 hz2
      refine ⟨by rw [hh.1]; exact w1, ?_⟩
      rw [e3 z (fun w => by subst w; exact o1 w1)]
      exact w2
theorem jha_wai {r i : Nat} {v : Int32} (htk : atk (jkd h r) = 0) : jha h (wai h r i v) r i (Value.int v) := by
  refine ⟨fun _ => rfl, fun _ => rfl, rfl, rfl, fun _ _ => rfl, fun q n hq => ?_, ?_, fun _ => rfl⟩
  · unfold jev
    have e : jai (wai h r i v) q n = jai h q n := by
      show (if q = r ∧ n = i then v else jai h q n) = _
      rw [if_neg (fun z => by rcases hq with w | w; exact w z.1; exact w z.2)]
    have e2 : jkd (wai h r i v) q = jkd h q := rfl
    rw [e2]
    rcases hk : atk (jkd h q) with _ | _ | _
    · rw [e]; rfl
    · rfl
    · rfl
  · unfold jev
    have e2 : jkd (wai h r i v) r = jkd h r := rfl
    rw [e2, htk]
    have e : jai (wai h r i v) r i = v := by
      show (if r = r ∧ i = i then v else jai h r i) = _
      rw [if_pos ⟨rfl, rfl⟩]
    show Value.int _ = _
    rw [e]
theorem JInv.wai {r i : Nat} {v : Int32} (hI : JInv D h) (hb : jbs D < r) (hz : r ≤ jsz h) : JInv D (wai h r i v) := by
  obtain ⟨i1, i2, i3, i4, i5, i6, i7⟩ := hI
  refine ⟨i1, i2, i3, i4, fun q hq => ⟨(i5 q hq).1, fun n => ?_⟩, fun q hq => ⟨(i6 q hq).1, (i6 q hq).2.1, (i6 q hq).2.2.1, fun n => ?_⟩, i7⟩
  · have hq : jsz h < q := hq
    exact ⟨by show (if q = r ∧ n = i then v else jai h q n) = _; rw [if_neg (fun z => by omega)]; exact ((i5 q hq).2 n).1, ((i5 q hq).2 n).2.1, ((i5 q hq).2 n).2.2⟩
  · exact ⟨by show (if q = r ∧ n = i then v else jai h q n) = _; rw [if_neg (fun z => by omega)]; exact ((i6 q hq).2.2.2 n).1, ((i6 q hq).2.2.2 n).2.1, ((i6 q hq).2.2.2 n).2.2⟩
theorem jha_wal {r i : Nat} {v : Int64} (htk : atk (jkd h r) = 1) : jha h (wal h r i v) r i (Value.long v) := by
  refine ⟨fun _ => rfl, fun _ => rfl, rfl, rfl, fun _ _ => rfl, fun q n hq => ?_, ?_, fun _ => rfl⟩
  · unfold jev
    have e : jal (wal h r i v) q n = jal h q n := by
      show (if q = r ∧ n = i then v else jal h q n) = _
      rw [if_neg (fun z => by rcases hq with w | w; exact w z.1; exact w z.2)]
    have e2 : jkd (wal h r i v) q = jkd h q := rfl
    rw [e2]
    rcases hk : atk (jkd h q) with _ | _ | _
    · rfl
    · rw [e]; rfl
    · rfl
  · unfold jev
    have e2 : jkd (wal h r i v) r = jkd h r := rfl
    rw [e2, htk]
    have e : jal (wal h r i v) r i = v := by
      show (if r = r ∧ i = i then v else jal h r i) = _
      rw [if_pos ⟨rfl, rfl⟩]
    show Value.long _ = _
    rw [e]
theorem JInv.wal {r i : Nat} {v : Int64} (hI : JInv D h) (hb : jbs D < r) (hz : r ≤ jsz h) : JInv D (wal h r i v) := by
  obtain ⟨i1, i2, i3, i4, i5, i6, i7⟩ := hI
  refine ⟨i1, i2, i3, i4, fun q hq => ⟨(i5 q hq).1, fun n => ?_⟩, fun q hq => ⟨(i6 q hq).1, (i6 q hq).2.1, (i6 q hq).2.2.1, fun n => ?_⟩, i7⟩
  · have hq : jsz h < q := hq
    exact ⟨((i5 q hq).2 n).1, by show (if q = r ∧ n = i then v else jal h q n) = _; rw [if_neg (fun z => by omega)]; exact ((i5 q hq).2 n).2.1, ((i5 q hq).2 n).2.2⟩
  · exact ⟨((i6 q hq).2.2.2 n).1, by show (if q = r ∧ n = i then v else jal h q n) = _; rw [if_neg (fun z => by omega)]; exact ((i6 q hq).2.2.2 n).2.1, ((i6 q hq).2.2.2 n).2.2⟩
theorem jha_war {r i : Nat} {v : Nat} (htk : atk (jkd h r) = 2) : jha h (war h r i v) r i (rv v) := by
  refine ⟨fun _ => rfl, fun _ => rfl, rfl, rfl, fun _ _ => rfl, fun q n hq => ?_, ?_, fun _ => rfl⟩
  · unfold jev
    have e : jar (war h r i v) q n = jar h q n := by
      show (if q = r ∧ n = i then v else jar h q n) = _
      rw [if_neg (fun z => by rcases hq with w | w; exact w z.1; exact w z.2)]
    have e2 : jkd (war h r i v) q = jkd h q := rfl
    rw [e2]
    rcases hk : atk (jkd h q) with _ | _ | _
    · rfl
    · rfl
    · show rv _ = rv _; rw [e]
  · unfold jev
    have e2 : jkd (war h r i v) r = jkd h r := rfl
    rw [e2, htk]
    have e : jar (war h r i v) r i = v := by
      show (if r = r ∧ i = i then v else jar h r i) = _
      rw [if_pos ⟨rfl, rfl⟩]
    show rv _ = _
    rw [e]
theorem JInv.war {r i : Nat} {v : Nat} (hI : JInv D h) (hb : jbs D < r) (hz : r ≤ jsz h) (hv : v = 0 ∨ sbt (jkd h v) (atg (jkd h r)) = true) : JInv D (war h r i v) := by
  obtain ⟨i1, i2, i3, i4, i5, i6, i7⟩ := hI
  refine ⟨i1, i2, i3, fun q n => by
      show (if q = r ∧ n = i then v else jar h q n) = 0 ∨ sbt (jkd h (if q = r ∧ n = i then v else jar h q n)) (atg (jkd h q)) = true
      by_cases hc : q = r ∧ n = i
      · rw [if_pos hc, hc.1]; exact hv
      · rw [if_neg hc]; exact i4 q n, fun q hq => ⟨(i5 q hq).1, fun n => ?_⟩, fun q hq => ⟨(i6 q hq).1, (i6 q hq).2.1, (i6 q hq).2.2.1, fun n => ?_⟩, i7⟩
  · have hq : jsz h < q := hq
    exact ⟨((i5 q hq).2 n).1, ((i5 q hq).2 n).2.1, by show (if q = r ∧ n = i then v else jar h q n) = _; rw [if_neg (fun z => by omega)]; exact ((i5 q hq).2 n).2.2⟩
  · exact ⟨((i6 q hq).2.2.2 n).1, ((i6 q hq).2.2.2 n).2.1, by show (if q = r ∧ n = i then v else jar h q n) = _; rw [if_neg (fun z => by omega)]; exact ((i6 q hq).2.2.2 n).2.2⟩
theorem jw_iast {t r i : Nat} {j : Int32} {v : Int32} (hd : jmT M pc = some (.iastore, 1)) (ht : jar_ t = true) (hty : aty t = some .int) (htk : atk t = 0) (hw : wtg t = true) (hr : r ≠ 0) (hj : jix j i) (hi : i < jln h r)
    (k : JW D d M pc' ls st (wai h r i v) Q) (hp : pc + 1 = pc' := by rfl) : JW D d M pc ls (vI v :: vI j :: vR t r :: st) h Q := by
  intro hI hl hs
  have hak : atk (jkd h r) = 0 := (jarrobj (hs (vR t r) (by simp)) hr ht).2.2.2.1.trans htk
  subst hp
  refine jw_ast (x := vI v) ht hty hw hr hj hi (jha_wai (v := v) hak) (fun hI _ hb hz => hI.wai hb hz) (fun p l e R s m args below meth c H locs cells slots Z lsA q cell hI hs hF hR hrq hc hcell harr hin o2 hty' o4 o5 kk => ?_) k hI hl hs
  subst hrq
  exact W.iast hF.1 hF.2.2.2.2.1 hc harr hcell.2.1 hin rfl rfl (hF.2.2.2.1.1 _ _ hd) (fun H' e1 e2 e3 => kk H' (e1) e2 e3)
theorem jw_bast {t r i : Nat} {j : Int32} {v : Int32} (hd : jmT M pc = some (.bastore, 1)) (ht : jar_ t = true) (hty : aty t = some .byte) (htk : atk t = 0) (hw : wtg t = true) (hr : r ≠ 0) (hj : jix j i) (hi : i < jln h r)
    (k : JW D d M pc' ls st (wai h r i (v.toInt8.toInt32)) Q) (hp : pc + 1 = pc' := by rfl) : JW D d M pc ls (vI v :: vI j :: vR t r :: st) h Q := by
  intro hI hl hs
  have hak : atk (jkd h r) = 0 := (jarrobj (hs (vR t r) (by simp)) hr ht).2.2.2.1.trans htk
  subst hp
  refine jw_ast (x := vI v) ht hty hw hr hj hi (jha_wai (v := (v.toInt8.toInt32)) hak) (fun hI _ hb hz => hI.wai hb hz) (fun p l e R s m args below meth c H locs cells slots Z lsA q cell hI hs hF hR hrq hc hcell harr hin o2 hty' o4 o5 kk => ?_) k hI hl hs
  subst hrq
  exact W.bast hF.1 hF.2.2.2.2.1 hc harr hcell.2.1 hin rfl rfl (hF.2.2.2.1.1 _ _ hd) (fun H' e1 e2 e3 => kk H' (e1) e2 e3)
theorem jw_zast {t r i : Nat} {j : Int32} {v : Int32} (hd : jmT M pc = some (.bastore, 1)) (ht : jar_ t = true) (hty : aty t = some .boolean) (htk : atk t = 0) (hw : wtg t = true) (hn : narrow .boolean (.int v) = .int v) (hr : r ≠ 0) (hj : jix j i) (hi : i < jln h r)
    (k : JW D d M pc' ls st (wai h r i v) Q) (hp : pc + 1 = pc' := by rfl) : JW D d M pc ls (vI v :: vI j :: vR t r :: st) h Q := by
  intro hI hl hs
  have hak : atk (jkd h r) = 0 := (jarrobj (hs (vR t r) (by simp)) hr ht).2.2.2.1.trans htk
  subst hp
  refine jw_ast (x := vI v) ht hty hw hr hj hi (jha_wai (v := v) hak) (fun hI _ hb hz => hI.wai hb hz) (fun p l e R s m args below meth c H locs cells slots Z lsA q cell hI hs hF hR hrq hc hcell harr hin o2 hty' o4 o5 kk => ?_) k hI hl hs
  subst hrq
  exact W.zast hF.1 hF.2.2.2.2.1 hc harr hcell.2.1 hin rfl rfl (hF.2.2.2.1.1 _ _ hd) (fun H' e1 e2 e3 => kk H' (by rw [hn] at e1; exact e1) e2 e3)
theorem jw_sast {t r i : Nat} {j : Int32} {v : Int32} (hd : jmT M pc = some (.sastore, 1)) (ht : jar_ t = true) (hty : aty t = some .short) (htk : atk t = 0) (hw : wtg t = true) (hr : r ≠ 0) (hj : jix j i) (hi : i < jln h r)
    (k : JW D d M pc' ls st (wai h r i (v.toInt16.toInt32)) Q) (hp : pc + 1 = pc' := by rfl) : JW D d M pc ls (vI v :: vI j :: vR t r :: st) h Q := by
  intro hI hl hs
  have hak : atk (jkd h r) = 0 := (jarrobj (hs (vR t r) (by simp)) hr ht).2.2.2.1.trans htk
  subst hp
  refine jw_ast (x := vI v) ht hty hw hr hj hi (jha_wai (v := (v.toInt16.toInt32)) hak) (fun hI _ hb hz => hI.wai hb hz) (fun p l e R s m args below meth c H locs cells slots Z lsA q cell hI hs hF hR hrq hc hcell harr hin o2 hty' o4 o5 kk => ?_) k hI hl hs
  subst hrq
  exact W.sast hF.1 hF.2.2.2.2.1 hc harr hcell.2.1 hin rfl rfl (hF.2.2.2.1.1 _ _ hd) (fun H' e1 e2 e3 => kk H' (e1) e2 e3)
theorem jw_last {t r i : Nat} {j : Int32} {v : Int64} (hd : jmT M pc = some (.lastore, 1)) (ht : jar_ t = true) (hty : aty t = some .long) (htk : atk t = 1) (hw : wtg t = true) (hr : r ≠ 0) (hj : jix j i) (hi : i < jln h r)
    (k : JW D d M pc' ls st (wal h r i v) Q) (hp : pc + 1 = pc' := by rfl) : JW D d M pc ls (vL v :: vI j :: vR t r :: st) h Q := by
  intro hI hl hs
  have hak : atk (jkd h r) = 1 := (jarrobj (hs (vR t r) (by simp)) hr ht).2.2.2.1.trans htk
  subst hp
  refine jw_ast (x := vL v) ht hty hw hr hj hi (jha_wal (v := v) hak) (fun hI _ hb hz => hI.wal hb hz) (fun p l e R s m args below meth c H locs cells slots Z lsA q cell hI hs hF hR hrq hc hcell harr hin o2 hty' o4 o5 kk => ?_) k hI hl hs
  subst hrq
  exact W.last hF.1 hF.2.2.2.2.1 hc harr hcell.2.1 hin rfl rfl (hF.2.2.2.1.1 _ _ hd) (fun H' e1 e2 e3 => kk H' (e1) e2 e3)
/-- null laid into any array of references (as va_WaastN, for components that are arrays too) -/
theorem jW_aastN {p : Program} {l : Launch} {e : Env} {R : Room} {s : State} {m : MethodId} {args : Array Value} {below : List Frame} {meth : Method} {c : Code} {H : Heap} {locs : List Loc} {cells slots : Nat} {Z : State → Prop} {cc : ByteArray} (hexec : p.tables.exec = Jvm.exec) (hb : c.code = cc) {a : Addr} {cell : Cell} {ty : FieldType} (hrf : ty.isReference = true) {j : Int32} (hcell : H[a]? = some cell) (harr : s.isArrayOf cell ty) (hknown : cell.vm ≠ .unknown) (hin : ¬ (j < 0 ∨ cell.slots.size ≤ j.toNatClampNeg))
    {g : JFrame} (hg : g.method = m) {rest : List Value} (hstack : g.stack = .null :: .int j :: .ref a :: rest) (hdg : decode cc g.pc = .ok (.aastore, 1))
    (kk : ∀ H' : Heap, H'[a]? = some (cell.setSlot j.toNatClampNeg .null) → H'.size = H.size → (∀ q, q ≠ a → H'[q]? = H[q]?) → W p l e R s m args below meth c H' (locs ++ [⟨a, j.toNatClampNeg⟩]) cells slots Z { g with pc := g.pc + 1, stack := rest }) :
    W p l e R s m args below meth c H locs cells slots Z g := by
  intro T hT X
  subst hb
  have hT' : T.heap[a]? = some cell := by rw [hT]; exact hcell
  have hA := State.isArrayOf_alike X.warmed.alike harr
  have hfit : T.fitsSlot cell.cls cell.vm j.toNatClampNeg .null = true := by
    obtain ⟨hobj, k, hk, comp, hkind⟩ := hA
    cases ty <;> first | (cases hrf; done) | (cases hvm : cell.vm <;> first | exact absurd hvm (hobj _) | simp [State.fitsSlot, State.slotType?, hk, hkind, fits])
  have hlt : a < T.heap.size := (Array.getElem?_eq_some_iff.mp hT').1
  obtain ⟨t', a1, b1⟩ := kk _ (heapAt_setCell_self _ hlt) (by rw [size_setCell, hT]) (fun q hq => by rw [heapAt_setCell_ne _ (Ne.symm hq), hT]) (T.setCell a (cell.setSlot j.toNatClampNeg .null)) rfl (X.stored hT' _ _)
  refine ⟨t', ?_, b1⟩
  subst hg
  jvm_step X.here [hexec, hdg]
  refine aastore.wp_of_null (c := cell) (t := ty) X.here.top hstack hT' hA hin hknown (Nat.not_le.mp fun q => hin (Or.inr q)) hfit ?_
  intro acts
  rw [afterInstr_ok]
  exact a1
theorem jw_aast {t r i t2 v : Nat} {j : Int32} {ty : FieldType} (hd : jmT M pc = some (.aastore, 1)) (ht : jar_ t = true) (hty : aty t = some ty) (htk : atk t = 2) (hw : wtg t = true) (h2 : sbt t2 (atg t) = true) (hr : r ≠ 0) (hj : jix j i) (hi : i < jln h r)
    (k : JW D d M pc' ls st (war h r i v) Q) (hp : pc + 1 = pc' := by rfl) : JW D d M pc ls (vR t2 v :: vI j :: vR t r :: st) h Q := by
  intro hI hl hs
  obtain ⟨z1, z2, z3, z4, z5⟩ := jarrobj (hs (vR t r) (by simp)) hr ht
  have hak : atk (jkd h r) = 2 := z4.trans htk
  subst hp
  refine jw_ast (x := vR t2 v) ht hty hw hr hj hi (jha_war (v := v) hak) (fun hI hs hb hz => hI.war hb hz ?_) (fun p l e R s m args below meth c H locs cells slots Z lsA q cell hI hs hF hR hrq hc hcell harr hin o2 hty' o4 o5 kk => ?_) k hI hl hs
  · rcases hs (vR t2 v) (by simp) with e | e
    · exact Or.inl e
    · exact Or.inr (by rw [z5]; exact sbt_trans e h2)
  · subst hrq
    have hrf := jt_aref0 _ o2 (o4.trans htk) ty hty'
    cases v with
    | zero => exact jW_aastN hF.1 hF.2.2.2.2.1 hrf hc harr hcell.2.1 hin rfl rfl (hF.2.2.2.1.1 _ _ hd) (fun H' e1 e2 e3 => kk H' e1 e2 e3)
    | succ b =>
      have hvv := hs (vR t2 (b + 1)) (by simp)
      have hvk : sbt (jkd h (b + 1)) t2 = true := by
        rcases hvv with e | e
        · cases e
        · exact e
      obtain ⟨b', cv, hb', hcv, hcellv⟩ := jcell hR (sbt_ne0 hvk) (Nat.succ_ne_zero b)
      cases hb'
      obtain ⟨hobj, kA, hkA, comp, hkind⟩ := harr
      obtain ⟨-, kA', comp', f2, f3, f4⟩ := hF.arr _ ty hty'
      have ecl := hcell.1
      rw [ecl] at hkA
      cases hkA.symm.trans f2
      have ec : comp = comp' := by
        have := hkind.symm.trans f3
        simp at this
        exact this
      subst ec
      have hkd := (hI.1 _ (sbt_ne0 hvk)).2.2
      obtain ⟨y1, ⟨kk1, y2⟩, kc, y3⟩ := hF.asg (jkd h (b + 1)) (jkd h (q + 1)) ty comp (by rw [o5]; exact sbt_trans hvk h2) hkd (o4.trans htk) hty' (f4 hrf)
      refine W.aast hF.1 hF.2.2.2.2.1 hc hobj hcell.2.1 (by rw [ecl]; exact f2) hkind hrf y3 ⟨fun w => hin (Or.inl w), Nat.not_le.mp fun w => hin (Or.inr w)⟩ hcv (fun z e => ?_) (by rw [hcellv.1]; exact y2) (by rw [hcellv.1]; exact y1) rfl rfl (hF.2.2.2.1.1 _ _ hd) (fun H' e1 e2 e3 => kk H' e1 e2 e3)
      have := hcellv.2.2.1
      rw [e] at this
      cases this
end JAs
