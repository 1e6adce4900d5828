/-! new objects and arrays -/
theorem jt_dflt0 : ∀ F, F < 330 → defaultValue (fty F) = match ftk F with | 0 => Value.int 0 | 1 => Value.long 0 | _ => Value.null := by decide +kernel
section JNw
variable {D : JD} {d : Nat} {M : JM} {pc pc' : Nat} {ls ls' : List (Option JV)} {st st' : List JV} {h h1 : JH} {Q : JO → JH → Prop}
theorem JInv.new (hI : JInv D h) {k : Nat} (hk : jkk k = true) (hkd : ∀ q, jkd h1 q = if q = jsz h + 1 then k else jkd h q) (hln : ∀ q, q ≤ jsz h → jln h1 q = jln h q) (hsz : jsz h1 = jsz h + 1)
    (hf : ∀ F q, jfi h1 F q = jfi h F q ∧ jfl h1 F q = jfl h F q ∧ jfr h1 F q = jfr h F q) (ha : ∀ q i, jai h1 q i = jai h q i ∧ jal h1 q i = jal h q i ∧ jar h1 q i = jar h q i) : JInv D h1 := by
  obtain ⟨i1, i2, i3, i4, i5, i6, i7⟩ := hI
  have hv : ∀ v t, sbt (jkd h v) t = true → sbt (jkd h1 v) t = true := fun v t e => by
    rw [hkd, if_neg (fun z => by have := (i1 v (sbt_ne0 e)).2.1; omega)]; exact e
  refine ⟨fun r hr => ?_, fun r hr => ?_, fun F r => ?_, fun r i => ?_, fun r hr => ?_, fun r hr => ?_, ⟨by rw [hsz]; omega, i7.2⟩⟩
  · rw [hkd] at hr ⊢
    by_cases e : r = jsz h + 1
    · rw [if_pos e]; exact ⟨by omega, by rw [hsz]; omega, hk⟩
    · rw [if_neg e] at hr ⊢
      have := i1 r hr
      exact ⟨this.1, by rw [hsz]; omega, this.2.2⟩
  · rw [hkd] at hr
    by_cases e : r = jsz h + 1
    · omega
    · rw [if_neg e] at hr; exact i2 r hr
  · rw [(hf F r).2.2]
    rcases i3 F r with e | e
    · exact Or.inl e
    · exact Or.inr (hv _ _ e)
  · rw [(ha r i).2.2]
    by_cases e : r = jsz h + 1
    · exact Or.inl (((i5 r (by omega)).2 i).2.2)
    · rcases i4 r i with z | z
      · exact Or.inl z
      · refine Or.inr ?_
        rw [show jkd h1 r = jkd h r by rw [hkd, if_neg e]]
        exact hv _ _ z
  · rw [hsz] at hr
    refine ⟨fun F => ?_, fun i => ?_⟩
    · rw [(hf F r).1, (hf F r).2.1, (hf F r).2.2]; exact (i5 r (by omega)).1 F
    · rw [(ha r i).1, (ha r i).2.1, (ha r i).2.2]; exact (i5 r (by omega)).2 i
  · have o := i6 r hr
    refine ⟨by rw [hkd, if_neg (by omega)]; exact o.1, by rw [hln r (by omega)]; exact o.2.1, fun F => ?_, fun i => ?_⟩
    · rw [(hf F r).1, (hf F r).2.1, (hf F r).2.2]; exact o.2.2.1 F
    · rw [(ha r i).1, (ha r i).2.1, (ha r i).2.2]; exact o.2.2.2 i
theorem jrl_new {k : Nat} {H H1 : Heap} {cell : Cell} (hI : JInv D h) (hR : JRl D h H) (hkd : ∀ q, jkd h1 q = if q = jsz h + 1 then k else jkd h q) (hln : ∀ q, q ≤ jsz h → jln h1 q = jln h q) (hsz : jsz h1 = jsz h + 1)
    (hfv : ∀ F q, jfv h1 F q = jfv h F q) (hfi : ∀ q, jfi h1 330 q = jfi h 330 q) (hev : ∀ q i, q ≤ jsz h → jev h1 q i = jev h q i) (e1 : H1[H.size]? = some cell) (e2 : H1.size = H.size + 1) (e3 : ∀ q, q < H.size → H1[q]? = H[q]?) (hc : JCell D h1 (jsz h + 1) cell) : JRl D h1 H1 := by
  refine ⟨by rw [e2, hsz, hR.1], fun a ha => ?_, fun a ha => ?_⟩
  · rw [e3 a (by rw [hR.1]; have := hI.2.2.2.2.2.2.1; omega)]; exact hR.2.1 a ha
  · rw [hkd] at ha
    by_cases e : a + 1 = jsz h + 1
    · have : a = H.size := by rw [hR.1]; omega
      subst this
      exact ⟨cell, e1, by rw [e]; exact hc⟩
    · rw [if_neg e] at ha
      obtain ⟨cl, d1, d2⟩ := hR.2.2 a ha
      have hle : a + 1 ≤ jsz h := (hI.1 _ ha).2.1
      refine ⟨cl, by rw [e3 a (by rw [hR.1]; omega)]; exact d1, ?_⟩
      obtain ⟨c1, c2, c3, c4, c5, c6⟩ := d2
      have ek : jkd h1 (a + 1) = jkd h (a + 1) := by rw [hkd, if_neg e]
      refine ⟨by rw [ek]; exact c1, c2, c3, by rw [ek]; exact fun z => ⟨(c4 z).1, (c4 z).2.of ek (hfi _)⟩, fun z G hG => ?_, fun z => ?_⟩
      · rw [ek] at z hG; rw [hfv]; exact c5 z G hG
      · rw [ek] at z; rw [hln _ hle]
        exact ⟨(c6 z).1, fun i hi => by rw [hev _ _ hle]; exact (c6 z).2 i hi⟩
theorem jle_new {k n : Nat} (hI : JInv D h) (hkd : ∀ q, jkd h1 q = if q = jsz h + 1 then k else jkd h q) (hsz : jsz h1 = jsz h + 1) (hus : jus h1 = jus h + n) : jle h h1 :=
  ⟨by omega, by omega, fun r hr => by rw [hkd, if_neg (fun z => by have := (hI.1 r hr).2.1; omega)]⟩
theorem jkp_new {K : Nat → Prop} {k : Nat} {s : State} {H H1 : Heap} (hR : JRl D h H) (hkd : ∀ q, jkd h1 q = if q = jsz h + 1 then k else jkd h q) (e3 : ∀ q, q < H.size → H1[q]? = H[q]?) (hK : JKp K s h H) : JKp K s h1 H1 := by
  intro q hq1 hq2
  obtain ⟨a, b⟩ := hK q hq1 hq2
  have hlt : q < H.size := by
    have : H[q]? = some s.heap[q] := by rw [b]; exact Array.getElem?_eq_getElem hq2
    exact (Array.getElem?_eq_some_iff.mp this).1
  refine ⟨by rw [hkd, if_neg (fun z => by rw [hR.1] at hlt; omega)]; exact a, by rw [e3 q hlt]; exact b⟩
theorem nwo_kd (k n q : Nat) : jkd (nwo h k n) q = if q = jsz h + 1 then k else jkd h q := rfl
theorem nwa_kd (k n q : Nat) : jkd (nwa h k n) q = if q = jsz h + 1 then k else jkd h q := rfl
theorem nwa_ln (k n q : Nat) : jln (nwa h k n) q = if q = jsz h + 1 then n else jln h q := rfl
theorem nwa_lnk (k n : Nat) : ∀ q, q ≤ jsz h → jln (nwa h k n) q = jln h q := fun q hq => by rw [nwa_ln, if_neg (by omega)]
theorem jok_new {k n t : Nat} {h : JH} (h1 : JH) (hkd : ∀ q, jkd h1 q = if q = jsz h + 1 then k else jkd h q) (hs : sbt k t = true) : jok h1 (vR t (jsz h + 1)) := Or.inr (by show sbt (jkd h1 (jsz h + 1)) t = true; rw [hkd, if_pos rfl]; exact hs)
theorem jt_sref0 : ∀ k, k < 226 → jkk k = true → k ∈ sups k := by decide +kernel
theorem jt_jkk0 : ∀ k, k < 226 → (job_ k = true ∨ jar_ k = true ∧ wrt k = true) → jkk k = true := by decide +kernel
theorem jw_new {idx k0 k n : Nat} (hd : jmT M pc = some (.new idx, 3)) (hk : jmK M idx = some k0) (hcn : jcn k0 = jcn k) (hj : job_ k = true) (hw : wrt k = true) (hlt : Nat.ble k 225 = true) (hn : jsl_ k = n) (kk : JW D d M pc' ls (vR k (jsz h + 1) :: st) (nwo h k n) Q) (hp : pc + 3 = pc' := by rfl) : JW D d M pc ls st h Q := by
  subst hp
  have hk96 : k < 226 := Nat.lt_succ_of_le (Nat.ble_eq.mp hlt)
  have hkk : jkk k = true := jt_jkk0 k hk96 (Or.inl hj)
  refine jw_st (fun hI hl hs => ?_) (fun p l e R s m args below meth c H locs c0 u0 Z lsA K hI hs hF hR hL g1 g2 g3 g4 g5 g6 kk => ?_) kk
  · have hle := jle_new (h := h) (h1 := nwo h k n) (n := n) hI (nwo_kd k n) rfl rfl
    refine ⟨hI.new hkk (nwo_kd k n) (fun _ _ => rfl) rfl (fun _ _ => ⟨rfl, rfl, rfl⟩) (fun _ _ => ⟨rfl, rfl, rfl⟩), hle, fun v hv => (hl v hv).le hle, fun v hv => ?_⟩
    rcases List.mem_cons.mp hv with q | q
    · rw [q]; exact jok_new (n := n) _ (nwo_kd k n) (sbt_iff.mpr (jt_sref0 k hk96 hkk))
    · exact (hs v q).le hle
  · obtain ⟨hfc, kC0, hkC0, hkind⟩ := hF.cls hj
    have hin := jt_inst hk96 hj hw
    have hcl := hF.2.2.2.1.2.2.2.2.2.2.1 idx k0 hk
    rw [hcn] at hcl
    have hsz : jsz (nwo h k n) = jsz h + 1 := rfl
    have hus : jus (nwo h k n) = jus h + n := rfl
    refine W.newcK hF.1 hF.2.2.2.2.1 hF.2.2.2.2.2.2.2.2.2.1 (hF.word hcl args) (hF.word hin.1 args) (hF.word hin.2 args) rfl (hF.2.2.2.1.1 _ _ hd) (by omega) (by rw [hn]; omega) hfc rfl fun H' kC hkC e1 e2 e3 => ?_
    have z := kk lsA H' locs hL (jrl_new hI hR (nwo_kd k n) (fun _ _ => rfl) rfl (fun _ _ => rfl) (fun _ => rfl) (fun q i hq => ?_) e1 e2 e3 ?_) g5 (jkp_new hR (nwo_kd k n) e3 g6)
    · rw [hsz, hus, hn.symm] at z
      rw [show jsz h - c0 + 1 = jsz h + 1 - c0 by omega, show jus h - u0 + jsl_ k = jus h + jsl_ k - u0 by omega, hR.1]
      exact z
    · unfold jev
      rw [nwo_kd, if_neg (by omega)]
      rfl
    · have ek : jkd (nwo h k n) (jsz h + 1) = k := by rw [nwo_kd, if_pos rfl]
      have c0 := jt_cls0 k hk96 hj
      refine ⟨(by rw [ek]; rfl), (fun q => (by cases q)), rfl, (fun _ => ⟨rfl, fun _ _ => ?_⟩), (fun _ F hFk => ?_), (fun q => (by rw [ek] at q; exact absurd c0.1 q))⟩
      · obtain ⟨y1, kX, y2, y3⟩ := hF.2.1.2.2.1 k hj
        refine ⟨kX, by rw [ek]; exact y2, ?_⟩
        obtain ⟨k', y4, y5⟩ := hF.alike.2.2 _ _ y2
        cases hkC.symm.trans y4
        rw [ek, y5]
        rfl
      rw [ek] at hFk
      have hFl := jt_fldlt hk96 hFk
      obtain ⟨cf, kf, fi, f, f1, f2, f3⟩ := hF.fnd hFl
      have hlay := hF.word (jt_lay hk96 hj hw hFk) args
      have hlay2 : (Cond.lays (jcn k) (fow F) (fnm F) (fds F)).before args s = true ∨ (Cond.laysFinal (jcn k) (fow F) (fnm F) (fds F)).before args s = true := by
        unfold jlw at hlay
        cases hff : ffn F with
        | true => rw [hff] at hlay; exact Or.inr hlay
        | false => rw [hff] at hlay; exact Or.inl hlay
      have h3 := (u_facts hfc hkC hlay2 f1).2.2
      rw [(State.fieldFound?_type f1 (jt_ftg0 F hFl).2).2] at h3
      rw [← f3, k2_blank h3, jt_dflt0 F hFl]
      have zz := hI.2.2.2.2.1 (jsz h + 1) (Nat.lt_succ_self _)
      have y := zz.1 F
      unfold jfv
      rw [show jfi (nwo h k n) F (jsz h + 1) = 0 from y.1, show jfl (nwo h k n) F (jsz h + 1) = 0 from y.2.1, show jfr (nwo h k n) F (jsz h + 1) = 0 from y.2.2]
      rcases ftk F with _ | _ | _ <;> rfl
/-- the cell of a new array -/
theorem jcell_arr {k n : Nat} {ty : FieldType} {cA : ClassId} {v : Value} (hI : JInv D h) (hty : aty k = some ty) (hck : cA = jck D k) (hv : v = match atk k with | 0 => Value.int 0 | 1 => Value.long 0 | _ => Value.null) : JCell D (nwa h k n) (jsz h + 1) { cls := cA, slots := Array.replicate n v, vm := .none } := by
  have ek : jkd (nwa h k n) (jsz h + 1) = k := by rw [nwa_kd, if_pos rfl]
  have el : jln (nwa h k n) (jsz h + 1) = n := by rw [nwa_ln, if_pos rfl]
  refine ⟨(by rw [ek]; exact hck), (fun q => (by cases q)), rfl, (fun _ => ⟨rfl, fun y _ => (by rw [ek] at y; rw [jexc_aty y] at hty; cases hty)⟩), (fun q => (by rw [ek, hty] at q; cases q)), (fun _ => ?_)⟩
  rw [el]
  refine ⟨by simp, fun i hi => ?_⟩
  simp only [Array.getElem?_replicate, hi, if_true]
  unfold jev
  rw [ek, hv]
  have y := (hI.2.2.2.2.1 (jsz h + 1) (Nat.lt_succ_self _)).2 i
  rw [show jai (nwa h k n) (jsz h + 1) i = 0 from y.1, show jal (nwa h k n) (jsz h + 1) i = 0 from y.2.1, show jar (nwa h k n) (jsz h + 1) i = 0 from y.2.2]
  rcases atk k with _ | _ | _ <;> rfl
theorem jw_newarr {k n : Nat} {x : Int32} {ty : FieldType} (hty : aty k = some ty) (hw : wrt k = true) (hlt : Nat.ble k 225 = true)
    (f : ∀ (p : Program) (l : Launch) (e : Env) (R : Room) (s : State) (m : MethodId) (args : Array Value) (below : List Frame) (meth : Method) (c : Code) (H : Heap) (locs : List Loc) (cells slots : Nat) (Z : State → Prop) (lsA : Array Slot),
      JFr D M l p s m meth c → cells + 1 ≤ R.cells → slots + n ≤ R.slots →
      (∀ (cA : ClassId) (v : Value), cA = jck D k → (v = match atk k with | 0 => Value.int 0 | 1 => Value.long 0 | _ => Value.null) → W p l e R s m args below meth c (H.push { cls := cA, slots := Array.replicate n v, vm := .none }) locs (cells + 1) (slots + n) Z (F0 m pc' lsA (.ref H.size :: st.map vv))) →
      W p l e R s m args below meth c H locs cells slots Z (F0 m pc lsA ((vI x :: st).map vv)))
    (kk : JW D d M pc' ls (vR k (jsz h + 1) :: st) (nwa h k n) Q) : JW D d M pc ls (vI x :: st) h Q := by
  have hk96 : k < 226 := Nat.lt_succ_of_le (Nat.ble_eq.mp hlt)
  have hja : jar_ k = true := by
    cases hj : jar_ k with
    | true => rfl
    | false =>
      have key : ∀ k, k < 226 → jar_ k = false → aty k = none := by decide +kernel
      rw [key k hk96 hj] at hty; cases hty
  have hkk : jkk k = true := jt_jkk0 k hk96 (Or.inr ⟨hja, hw⟩)
  refine jw_st (fun hI hl hs => ?_) (fun p l e R s m args below meth c H locs c0 u0 Z lsA K hI hs hF hR hL g1 g2 g3 g4 g5 g6 kk => ?_) kk
  · have hle := jle_new (h := h) (h1 := nwa h k n) (n := n) hI (nwa_kd k n) rfl rfl
    refine ⟨hI.new hkk (nwa_kd k n) (nwa_lnk k n) rfl (fun _ _ => ⟨rfl, rfl, rfl⟩) (fun _ _ => ⟨rfl, rfl, rfl⟩), hle, fun v hv => (hl v hv).le hle, fun v hv => ?_⟩
    rcases List.mem_cons.mp hv with q | q
    · rw [q]; exact jok_new (n := n) _ (nwa_kd k n) (sbt_iff.mpr (jt_sref0 k hk96 hkk))
    · exact (hs v (by simp [q])).le hle
  · have hsz : jsz (nwa h k n) = jsz h + 1 := rfl
    have hus : jus (nwa h k n) = jus h + n := rfl
    refine f p l e R s m args below meth c H locs _ _ Z lsA hF (by omega) (by omega) fun cA v hcA hv => ?_
    have e3 : ∀ q, q < H.size → (H.push ({ cls := cA, slots := Array.replicate n v, vm := .none } : Cell))[q]? = H[q]? := fun q hq => by rw [Array.getElem?_push, if_neg (Nat.ne_of_lt hq)]
    have z := kk lsA (H.push { cls := cA, slots := Array.replicate n v, vm := .none }) locs hL (jrl_new hI hR (nwa_kd k n) (nwa_lnk k n) rfl (fun _ _ => rfl) (fun _ => rfl) (fun q i hq => ?_) (by simp) (by simp) e3 (jcell_arr hI hty hcA hv)) g5 (jkp_new hR (nwa_kd k n) e3 g6)
    · rw [hsz, hus] at z
      rw [show jsz h - c0 + 1 = jsz h + 1 - c0 by omega, show jus h - u0 + n = jus h + n - u0 by omega, hR.1]
      exact z
    · unfold jev
      rw [nwa_kd, if_neg (by omega)]
      rfl
theorem jw_newa {k n : Nat} {x : Int32} {at_ : ArrayType} {ty : FieldType} (hd : jmT M pc = some (.newarray at_, 2)) (hat : newarray.typeOf at_ = ty) (hty : aty k = some ty) (hdv : defaultValue ty = match atk k with | 0 => Value.int 0 | 1 => Value.long 0 | _ => Value.null) (hw : wrt k = true) (hlt : Nat.ble k 225 = true) (harr : Cond.arrayClass ty ∈ lw_all) (hx : jix x n) (hbytes : n * componentBytes ty ≤ 536870912)
    (kk : JW D d M pc' ls (vR k (jsz h + 1) :: st) (nwa h k n) Q) (hp : pc + 2 = pc' := by rfl) : JW D d M pc ls (vI x :: st) h Q := by
  subst hp hat
  refine jw_newarr hty hw hlt (fun p l e R s m args below meth c H locs cells slots Z lsA hF hc hs kk => ?_) kk
  have e := hx.2
  subst e
  refine W.newa hF.1 hF.2.2.2.2.1 (hF.word harr args) rfl (hF.2.2.2.1.1 _ _ hd) rfl hx.1 hbytes hc hs fun cA kA comp h1 h2 h3 => ?_
  exact kk cA _ (by
    obtain ⟨y, -⟩ := hF.arr k _ hty
    exact Option.some.inj (h1.symm.trans y)) hdv
end JNw
