/-! new V[n][m]: an array of arrays (after the model's own 'make') -/
def jmo (cA : ClassId) (n h0 : Nat) (i : Nat) : Cell := { cls := cA, slots := (Array.range n).map (fun j => if j < i then Value.ref (h0 + 1 + j) else .null), vm := .none }
def jmi (cB : ClassId) (m : Nat) : Cell := { cls := cB, slots := Array.replicate m .null, vm := .none }
def jms (s : State) (cA cB : ClassId) (n m : Nat) : Nat → State
  | 0 => s.pushCell (jmo cA n s.heap.size 0)
  | i + 1 => ((jms s cA cB n m i).pushCell (jmi cB m)).setCell s.heap.size (jmo cA n s.heap.size (i + 1))
theorem jmo_size (cA : ClassId) (n h0 i : Nat) : (jmo cA n h0 i).slots.size = n := by simp [jmo]
theorem jmo_set (cA : ClassId) {n h0 i : Nat} (hi : i < n) : (jmo cA n h0 i).setSlot i (.ref (h0 + 1 + i)) = jmo cA n h0 (i + 1) := by
  unfold jmo Cell.setSlot
  congr 1
  apply Array.ext_getElem?
  intro j
  by_cases hj : j < n
  · by_cases e : i = j
    · subst e
      simp [Array.getElem?_setIfInBounds, hj]
    · rw [Array.getElem?_setIfInBounds_ne e]
      simp only [Array.getElem?_map, Array.getElem?_range, hj, if_true, Option.map_some]
      by_cases h2 : j < i
      · rw [if_pos h2, if_pos (by omega)]
      · rw [if_neg h2, if_neg (by omega)]
  · rw [Array.getElem?_eq_none (by simp; omega), Array.getElem?_eq_none (by simp; omega)]
theorem jms_facts (s : State) (cA cB : ClassId) (n m : Nat) : ∀ i, (jms s cA cB n m i).heap.size = s.heap.size + 1 + i ∧ (jms s cA cB n m i).heap[s.heap.size]? = some (jmo cA n s.heap.size i) ∧ (jms s cA cB n m i).vm = s.vm ∧ (jms s cA cB n m i).slotsUsed = s.slotsUsed + n + i * m
  | 0 => ⟨by simp [jms], by simp [jms], rfl, by simp [jms, jmo]⟩
  | i + 1 => by
    obtain ⟨a, b, d, u⟩ := jms_facts s cA cB n m i
    have hlt : s.heap.size < (jms s cA cB n m i).heap.size := by omega
    have hb' : ((jms s cA cB n m i).pushCell (jmi cB m)).heap[s.heap.size]? = some (jmo cA n s.heap.size i) := by rw [State.heap_pushCell_of_lt (h := hlt)]; exact b
    refine ⟨?_, State.heap_setCell_self hb', by simp [jms, d], ?_⟩
    · simp [jms, State.setCell, a]; omega
    · simp [jms, u, jmi, Nat.succ_mul]; omega
theorem jms_setTop (s : State) (f : JFrame) (cA cB : ClassId) (n m : Nat) : ∀ i, jms (s.setTop f) cA cB n m i = (jms s cA cB n m i).setTop f
  | 0 => rfl
  | i + 1 => by simp only [jms, jms_setTop s f cA cB n m i, State.heap_setTop, State.pushCell_setTop, State.setCell_setTop]
theorem jwp_newArray {E : CtlPost} {e : Env} {d : Bool} {acts : List Action} {s : State} {c comp : ClassId} {k : Class} {type : FieldType} {len : Nat} (hk : s.vm.classes[c]? = some k) (hkind : k.kind = .array comp type)
    (hlimit : ¬ len > e.platform.arrayLengthLimit) (hheap : ¬ len * componentBytes type > e.platform.maxHeapBytes) (hfit : fits type .null = true) {Q : Addr → Pre}
    (h1 : s.heap.size < e.platform.maxCells) (h2 : s.slotsUsed + len ≤ e.platform.maxSlots)
    (hq : Q s.heap.size d acts (s.pushCell { cls := c, slots := Array.replicate len .null, vm := .none })) : wp (Jvm.newArray c len .null) Q E e d acts s := by
  have hfits : ∀ i v, (Array.replicate len Value.null)[i]? = some v → s.fitsSlot c .none i v = true := by
    intro i v hv
    simp only [Array.getElem?_replicate] at hv
    split at hv
    · cases hv; simp [State.fitsSlot, State.slotType?, hk, hkind, hfit]
    · cases hv
  have hda : allocActs (Array.replicate len Value.null) s.heap.size acts = acts := by
    have hall : ((Array.replicate len Value.null).all (·.isDefault)) = true := by
      rw [Array.all_replicate]; split <;> simp [Value.isDefault]
    unfold allocActs; rw [if_pos hall]
  simp only [Jvm.newArray, Jvm.arrayFits, wp_bind', W.ask, W.ite, hlimit, if_false, wp_pure', W.theClass, hk, hkind, hheap, W.alloc, W.stop, Option.some.injEq, exists_eq_left', Array.size_replicate, hda]
  rw [if_neg (by omega)]
  exact ⟨h1, h2, hfits, hq⟩
theorem jwp_make {E : CtlPost} {e : Env} {d : Bool} {acts : List Action} {s : State} {cA cB cV : ClassId} {kA kB : Class} {V : String} {xn xm : Int32} (hkA : s.vm.classes[cA]? = some kA) (hA : kA.kind = .array cB (.array (.object V))) (hkB : s.vm.classes[cB]? = some kB) (hB : kB.kind = .array cV (.object V))
    (hn : ¬ xn < 0) (hm : ¬ xm < 0) (hl1 : ¬ xn.toNatClampNeg > e.platform.arrayLengthLimit) (hh1 : ¬ xn.toNatClampNeg * componentBytes (.array (.object V)) > e.platform.maxHeapBytes) (hl2 : ¬ xm.toNatClampNeg > e.platform.arrayLengthLimit) (hh2 : ¬ xm.toNatClampNeg * componentBytes (.object V) > e.platform.maxHeapBytes)
    (hc : s.heap.size + 1 + xn.toNatClampNeg ≤ e.platform.maxCells) (hs : s.slotsUsed + xn.toNatClampNeg + xn.toNatClampNeg * xm.toNatClampNeg ≤ e.platform.maxSlots) {Q : Addr → Pre}
    (hq : ∀ d' acts', Q s.heap.size d' acts' (jms s cA cB xn.toNatClampNeg xm.toNatClampNeg xn.toNatClampNeg)) : wp (multianewarray.make cA [xn, xm]) Q E e d acts s := by
  have hfind : ([xm].find? (· < 0)) = none := by simp [hm]
  have hmo : (jmo cA xn.toNatClampNeg s.heap.size 0) = { cls := cA, slots := Array.replicate xn.toNatClampNeg .null, vm := .none } := by
    unfold jmo
    congr 1
    apply Array.ext_getElem?
    intro j
    by_cases hj : j < xn.toNatClampNeg
    · simp [hj]
    · rw [Array.getElem?_eq_none (by simp; omega), Array.getElem?_eq_none (by simp; omega)]
  rw [multianewarray.make]
  simp only [wp_bind', W.ite, hn, if_false, wp_pure', W.theClass, hkA, hA, Option.some.injEq, exists_eq_left']
  refine jwp_newArray hkA hA hl1 hh1 rfl (by omega) (by have := Nat.zero_le (xn.toNatClampNeg * xm.toNatClampNeg); omega) ?_
  rw [← hmo]
  simp only [hfind]
  rw [ite_self, wp_bind', Std.Legacy.Range.forIn_eq_forIn_range']
  have hsz : ([:xn.toNatClampNeg] : Std.Legacy.Range).size = xn.toNatClampNeg := by simp [Std.Legacy.Range.size]
  rw [hsz]
  show wp (forIn (List.range' 0 xn.toNatClampNeg 1) PUnit.unit _) _ E e d acts _
  refine wp_forIn_inv (fun rest s' => ∃ i, i ≤ xn.toNatClampNeg ∧ rest = List.range' i (xn.toNatClampNeg - i) ∧ s' = jms s cA cB xn.toNatClampNeg xm.toNatClampNeg i) _ _ ⟨0, Nat.zero_le _, rfl, rfl⟩ ?_ ?_
  · rintro x rest s' d' acts' Q' ⟨i, hi, hl, rfl⟩ hnext
    have hlt : i < xn.toNatClampNeg := by
      rcases Nat.lt_or_ge i xn.toNatClampNeg with h | h
      · exact h
      · rw [show xn.toNatClampNeg - i = 0 from by omega] at hl; simp at hl
    obtain ⟨rfl, hrest⟩ : x = i ∧ rest = List.range' (i + 1) (xn.toNatClampNeg - (i + 1)) := by
      rw [show xn.toNatClampNeg - i = (xn.toNatClampNeg - (i + 1)) + 1 from by omega, List.range'_succ] at hl
      exact ⟨(List.cons.inj hl).1, (List.cons.inj hl).2⟩
    obtain ⟨f1, f2, f3, f4⟩ := jms_facts s cA cB xn.toNatClampNeg xm.toNatClampNeg x
    have hmul : x * xm.toNatClampNeg + xm.toNatClampNeg ≤ xn.toNatClampNeg * xm.toNatClampNeg := by
      have := Nat.mul_le_mul_right xm.toNatClampNeg (show x + 1 ≤ xn.toNatClampNeg from hlt)
      rw [Nat.succ_mul] at this; exact this
    simp only [wp_bind']
    rw [multianewarray.make]
    simp only [wp_bind', W.ite, hm, if_false, wp_pure', W.theClass, f3, hkB, hB, Option.some.injEq, exists_eq_left']
    refine jwp_newArray (by rw [f3]; exact hkB) hB hl2 hh2 rfl (by rw [f1]; omega) (by rw [f4]; omega) ?_
    have hlt0 : s.heap.size < (jms s cA cB xn.toNatClampNeg xm.toNatClampNeg x).heap.size := by rw [f1]; omega
    simp only [wp_bind', W.writeLoc, wp_pure']
    refine ⟨jmo cA xn.toNatClampNeg s.heap.size x, by rw [State.heap_pushCell_of_lt (h := hlt0)]; exact f2, by simp [jmo], by rw [jmo_size]; exact hlt, ?_, hnext _ _ _ ⟨x + 1, hlt, hrest, ?_⟩⟩
    · simp [State.fitsSlot, State.slotType?, f3, jmo, hkA, hA, fits]
    · rw [f1, jmo_set cA hlt]; rfl
  · rintro s' d' acts' ⟨i, hi, hl, rfl⟩
    have hiN : i = xn.toNatClampNeg := by
      rcases Nat.lt_or_ge i xn.toNatClampNeg with h | h
      · rw [show xn.toNatClampNeg - i = (xn.toNatClampNeg - (i + 1)) + 1 from by omega, List.range'_succ] at hl; cases hl
      · omega
    subst hiN
    simp only [wp_pure']
    exact hq _ _
theorem jX_filled {p : Program} {l : Launch} {e : Env} {R : Room} {s : State} {m : MethodId} {args : Array Value} {below : List Frame} {meth : Method} {c : Code} {T : State} {locs : List Loc} {cells slots : Nat} (X : Stand p l e R s m args below meth c T locs cells slots) (cA cB : ClassId) (N M : Nat) :
    ∀ i, i ≤ N → Stand p l e R s m args below meth c (jms T cA cB N M i) (locs ++ (List.range i).map fun j => ⟨T.heap.size, j⟩) (cells + 1 + i) (slots + N + i * M)
  | 0, _ => by
    have h := X.pushed (jmo cA N T.heap.size 0)
    rw [jmo_size] at h
    simpa [jms] using h
  | i + 1, hi => by
    have Xi := jX_filled X cA cB N M i (by omega)
    obtain ⟨f1, f2, f3, f4⟩ := jms_facts T cA cB N M i
    have hlt0 : T.heap.size < (jms T cA cB N M i).heap.size := by rw [f1]; omega
    have hcell : ((jms T cA cB N M i).pushCell (jmi cB M)).heap[T.heap.size]? = some (jmo cA N T.heap.size i) := by rw [State.heap_pushCell_of_lt (h := hlt0)]; exact f2
    have h := (Xi.pushed (jmi cB M)).stored hcell i (.ref (T.heap.size + 1 + i))
    have e1 : (jmi cB M).slots.size = M := by simp [jmi]
    rw [e1, jmo_set cA (by omega)] at h
    have e2 : (locs ++ (List.range (i + 1)).map fun j => (⟨T.heap.size, j⟩ : Loc)) = (locs ++ (List.range i).map fun j => (⟨T.heap.size, j⟩ : Loc)) ++ [⟨T.heap.size, i⟩] := by simp [List.range_succ, List.append_assoc]
    have e3 : slots + N + (i + 1) * M = slots + N + i * M + M := by rw [Nat.succ_mul]; omega
    rw [e2, e3]
    exact h
/-- the abstract heap behind i rows -/
def jmh (h : JH) (n m : Nat) : Nat → JH
  | 0 => nwa h 94 n
  | i + 1 => war (nwa (jmh h n m i) 86 m) (jsz h + 1) i (jsz h + 2 + i)
section JMu
variable {D : JD} {d : Nat} {M M' : JM} {pc pc' : Nat} {ls ls' : List (Option JV)} {st st' : List JV} {h h1 : JH} {Q : JO → JH → Prop}
theorem jmh_facts (h : JH) (n m : Nat) : ∀ i, jsz (jmh h n m i) = jsz h + 1 + i ∧ jus (jmh h n m i) = jus h + n + i * m ∧ jkd (jmh h n m i) (jsz h + 1) = 94 ∧ jln (jmh h n m i) (jsz h + 1) = n
  | 0 => ⟨rfl, by show jus h + n = _; omega, if_pos rfl, if_pos rfl⟩
  | i + 1 => by
    obtain ⟨a, b, c, e⟩ := jmh_facts h n m i
    refine ⟨?_, ?_, ?_, ?_⟩
    · show jsz (jmh h n m i) + 1 = _; omega
    · show jus (jmh h n m i) + m = _; rw [b, Nat.succ_mul]; omega
    · show (if jsz h + 1 = jsz (jmh h n m i) + 1 then 86 else jkd (jmh h n m i) (jsz h + 1)) = 94
      rw [if_neg (by omega)]; exact c
    · show (if jsz h + 1 = jsz (jmh h n m i) + 1 then m else jln (jmh h n m i) (jsz h + 1)) = n
      rw [if_neg (by omega)]; exact e
theorem jmh_old {n m : Nat} (hI : JInv D h) : ∀ i r, jkd h r ≠ 0 → jkd (jmh h n m i) r = jkd h r
  | 0, r, hr => if_neg (fun e => by have := (hI.1 r hr).2.1; omega)
  | i + 1, r, hr => by
    show (if r = jsz (jmh h n m i) + 1 then 86 else jkd (jmh h n m i) r) = jkd h r
    rw [if_neg (fun e => by have := (hI.1 r hr).2.1; have := (jmh_facts h n m i).1; omega)]
    exact jmh_old hI i r hr
theorem jmh_inv {n m : Nat} (hI : JInv D h) : ∀ i, JInv D (jmh h n m i)
  | 0 => hI.new (k := 94) rfl (nwa_kd 94 n) (nwa_lnk 94 n) rfl (fun _ _ => ⟨rfl, rfl, rfl⟩) (fun _ _ => ⟨rfl, rfl, rfl⟩)
  | i + 1 => by
    have ih := jmh_inv (n := n) (m := m) hI i
    obtain ⟨a, b, c, e⟩ := jmh_facts h n m i
    have h2 : JInv D (nwa (jmh h n m i) 86 m) := ih.new (k := 86) rfl (nwa_kd 86 m) (nwa_lnk 86 m) rfl (fun _ _ => ⟨rfl, rfl, rfl⟩) (fun _ _ => ⟨rfl, rfl, rfl⟩)
    have hk2 : jkd (nwa (jmh h n m i) 86 m) (jsz h + 1) = 94 := by rw [nwa_kd, if_neg (by omega)]; exact c
    have hb := hI.2.2.2.2.2.2.1
    refine h2.war (by omega) (show jsz h + 1 ≤ jsz (jmh h n m i) + 1 by omega) (Or.inr ?_)
    rw [hk2, nwa_kd, if_pos (by omega)]
    rfl
theorem jmh_rl {n m : Nat} {s : State} {p : Program} {l : Launch} {mm : MethodId} {meth : Method} {c : Code} {T : State} (hF : JFr D M l p s mm meth c) (hI : JInv D h) (hR : JRl D h T.heap) : ∀ i, i ≤ n → JRl D (jmh h n m i) (jms T (jck D 94) (jck D 86) n m i).heap
  | 0, _ => by
    have hc := jcell_arr (D := D) (k := 94) (n := n) (cA := jck D 94) (v := .null) hI rfl rfl rfl
    have e0 : jmo (jck D 94) n T.heap.size 0 = { cls := jck D 94, slots := Array.replicate n .null, vm := .none } := by
      unfold jmo
      congr 1
      apply Array.ext_getElem?
      intro j
      by_cases hj : j < n
      · simp [hj]
      · rw [Array.getElem?_eq_none (by simp; omega), Array.getElem?_eq_none (by simp; omega)]
    show JRl D (nwa h 94 n) (T.heap.push (jmo (jck D 94) n T.heap.size 0))
    rw [e0]
    refine jrl_new hI hR (nwa_kd 94 n) (nwa_lnk 94 n) rfl (fun _ _ => rfl) (fun _ => rfl) (fun q i hq => ?_) (by simp) (by simp) (fun q hq => by rw [Array.getElem?_push, if_neg (Nat.ne_of_lt hq)]) hc
    unfold jev
    rw [nwa_kd, if_neg (by omega)]
    rfl
  | i + 1, hi => by
    have ih := jmh_rl (n := n) (m := m) hF hI hR i (by omega)
    have iI := jmh_inv (n := n) (m := m) hI i
    obtain ⟨a, b, cc, e⟩ := jmh_facts h n m i
    obtain ⟨f1, f2, f3, f4⟩ := jms_facts T (jck D 94) (jck D 86) n m i
    have hc := jcell_arr (D := D) (k := 86) (n := m) (cA := jck D 86) (v := .null) iI rfl rfl rfl
    have hR2 : JRl D (nwa (jmh h n m i) 86 m) ((jms T (jck D 94) (jck D 86) n m i).heap.push (jmi (jck D 86) m)) := by
      refine jrl_new iI ih (nwa_kd 86 m) (nwa_lnk 86 m) rfl (fun _ _ => rfl) (fun _ => rfl) (fun q i hq => ?_) (by simp [jmi]) (by simp) (fun q hq => by rw [Array.getElem?_push, if_neg (Nat.ne_of_lt hq)]) hc
      unfold jev
      rw [nwa_kd, if_neg (by omega)]
      rfl
    have h2 : JInv D (nwa (jmh h n m i) 86 m) := iI.new (k := 86) rfl (nwa_kd 86 m) (nwa_lnk 86 m) rfl (fun _ _ => ⟨rfl, rfl, rfl⟩) (fun _ _ => ⟨rfl, rfl, rfl⟩)
    have hk2 : jkd (nwa (jmh h n m i) 86 m) (jsz h + 1) = 94 := by rw [nwa_kd, if_neg (by omega)]; exact cc
    have hs : T.heap.size = jsz h := hR.1
    have hlt0 : T.heap.size < (jms T (jck D 94) (jck D 86) n m i).heap.size := by rw [f1]; omega
    have hcell0 : ((jms T (jck D 94) (jck D 86) n m i).heap.push (jmi (jck D 86) m))[T.heap.size]? = some (jmo (jck D 94) n T.heap.size i) := by rw [Array.getElem?_push, if_neg (by omega)]; exact f2
    obtain ⟨cell, y1, y2⟩ := hR2.2.2 T.heap.size (by rw [hs, hk2]; decide)
    cases hcell0.symm.trans y1
    rw [hs] at y2
    show JRl D (war (nwa (jmh h n m i) 86 m) (jsz h + 1) i (jsz h + 2 + i)) (((jms T (jck D 94) (jck D 86) n m i).heap.push (jmi (jck D 86) m)).setIfInBounds T.heap.size (jmo (jck D 94) n T.heap.size (i + 1)))
    rw [← jmo_set (jck D 94) (show i < n by omega)]
    have hlen : jln (nwa (jmh h n m i) 86 m) (jsz h + 1) = n := by rw [nwa_ln, if_neg (by omega)]; exact e
    refine jrl_ast (q := jsz h) (i := i) (x := rv (jsz h + 2 + i)) (cell := jmo (jck D 94) n T.heap.size i) h2 hR2 (jha_war (by rw [hk2]; rfl)) (by rw [hk2]; decide) (by rw [hk2]; rfl) (by rw [hk2]; decide) (by rw [hlen]; omega) (by rw [hs]; exact y2) ?_ (by simp) (fun a ha => by rw [hs]; simp [Array.getElem?_setIfInBounds, Ne.symm ha])
    rw [hs]
    have : jsz h < (jms T (jck D 94) (jck D 86) n m i).heap.size + 1 := by omega
    simp only [Array.getElem?_setIfInBounds, if_true, Array.size_push, this]
    congr 2
    show Value.ref (jsz h + 1 + i) = rv (jsz h + 2 + i)
    rw [show jsz h + 2 + i = (jsz h + 1 + i) + 1 by omega]
    rfl
theorem jw_multi {idx n m : Nat} {xn xm : Int32} (hd : jmT M pc = some (.multianewarray idx 2, 4)) (hk : jmK M idx = some 94) (hx : jix xn n) (hy : jix xm m) (hbn : Nat.ble n 1000 = true) (hbm : Nat.ble m 1000 = true)
    (k : JW D d M pc' ls (vR 94 (jsz h + 1) :: st) (jmh h n m n) Q) (hp : pc + 4 = pc' := by rfl) : JW D d M pc ls (vI xm :: vI xn :: st) h Q := by
  subst hp
  have hbn := Nat.ble_eq.mp hbn
  have hbm := Nat.ble_eq.mp hbm
  obtain ⟨z1, z2, z3, z4⟩ := jmh_facts h n m n
  refine jw_st (fun hI hl hs => ?_) (fun p l e R s mm args below meth c H locs c0 u0 Z lsA K hI hs hF hR hL g1 g2 g3 g4 g5 g6 kk => ?_) k
  · have hle : jle h (jmh h n m n) := ⟨by omega, by omega, fun r hr => jmh_old hI n r hr⟩
    refine ⟨jmh_inv hI n, hle, fun v hv => (hl v hv).le hle, fun v hv => ?_⟩
    rcases List.mem_cons.mp hv with q | q
    · rw [q]; exact Or.inr (by show sbt (jkd (jmh h n m n) (jsz h + 1)) 94 = true; rw [z3]; rfl)
    · exact (hs v (by simp [q])).le hle
  · intro T hT X
    subst hT
    have hpl : e.platform.magicAccessors = ({} : Platform).magicAccessors := by rw [X.admits.platform]
    have hclink := hF.word (hF.2.2.2.1.2.2.2.2.2.2.1 idx 94 hk) args
    obtain ⟨a1, kA, comp, a2, a3, a4⟩ := hF.arr 94 _ rfl
    obtain ⟨b1, kB, comp2, b2, b3, b4⟩ := hF.arr 86 _ rfl
    have ec : comp = jck D 86 := Option.some.inj ((a4 rfl).symm.trans b1)
    subst ec
    obtain ⟨c1, hfc, hcl⟩ := Cond.classLink_spec hF.2.2.2.2.2.2.2.2.2.1 hclink e.platform hpl
    have e1 : c1 = jck D 94 := Option.some.inj (hfc.symm.trans a1)
    subst e1
    obtain ⟨hg₁, hwarm₁, hready₁⟩ := State.classEntry (e := e) X.warmed hcl
    generalize T.vm.noted mm.cls idx (.cls (jck D 94)) = vm₁ at hg₁ hwarm₁ hready₁
    have hal : s.vm.Alike vm₁ := hwarm₁.alike
    obtain ⟨kA₁, hkA₁, heA⟩ := hal.2.2 _ _ a2
    obtain ⟨kB₁, hkB₁, heB⟩ := hal.2.2 _ _ b2
    have X₁ := X.noted hwarm₁
    have en := hx.2
    have em := hy.2
    subst en
    subst em
    obtain ⟨hr1, hr2⟩ := X.roomAbove (a := 1 + xn.toNatClampNeg) (b := xn.toNatClampNeg + xn.toNatClampNeg * xm.toNatClampNeg) (by omega) (by omega)
    have hl1 : ¬ xn.toNatClampNeg > e.platform.arrayLengthLimit := by rw [Launch.admits_arrayLengthLimit X.admits]; omega
    have hh1 : ¬ xn.toNatClampNeg * componentBytes (.array (.object "WireRelationsModel$V")) > e.platform.maxHeapBytes := by
      rw [Launch.admits_maxHeapBytes X.admits]; show ¬ xn.toNatClampNeg * 4 > 536870912; omega
    have hl2 : ¬ xm.toNatClampNeg > e.platform.arrayLengthLimit := by rw [Launch.admits_arrayLengthLimit X.admits]; omega
    have hh2 : ¬ xm.toNatClampNeg * componentBytes (.object "WireRelationsModel$V") > e.platform.maxHeapBytes := by
      rw [Launch.admits_maxHeapBytes X.admits]; show ¬ xm.toNatClampNeg * 4 > 536870912; omega
    have XF := jX_filled X₁ (jck D 94) (jck D 86) xn.toNatClampNeg xm.toNatClampNeg xn.toNatClampNeg (Nat.le_refl _)
    have hR1 : JRl D (jmh h xn.toNatClampNeg xm.toNatClampNeg xn.toNatClampNeg) (jms (T.setVm vm₁) (jck D 94) (jck D 86) xn.toNatClampNeg xm.toNatClampNeg xn.toNatClampNeg).heap := jmh_rl (T := T.setVm vm₁) hF hI hR _ (Nat.le_refl _)
    have hdec : decode c.code pc = .ok (.multianewarray idx 2, 4) := by rw [hF.2.2.2.2.1]; exact hF.2.2.2.1.1 _ _ hd
    have hb := hI.2.2.2.2.2.2.1
    have hsz : T.heap.size = jsz h := hR.1
    have ec : jsz h - c0 + 1 + xn.toNatClampNeg = jsz (jmh h xn.toNatClampNeg xm.toNatClampNeg xn.toNatClampNeg) - c0 := by omega
    have eu : jus h - u0 + xn.toNatClampNeg + xn.toNatClampNeg * xm.toNatClampNeg = jus (jmh h xn.toNatClampNeg xm.toNatClampNeg xn.toNatClampNeg) - u0 := by omega
    rw [ec, eu] at XF
    have hold : ∀ i (q : Nat), q < T.heap.size → (jms (T.setVm vm₁) (jck D 94) (jck D 86) xn.toNatClampNeg xm.toNatClampNeg i).heap[q]? = T.heap[q]? := by
      intro i
      induction i with
      | zero => intro q hq; exact State.heap_pushCell_of_lt _ _ hq
      | succ i ih =>
        intro q hq
        have f1 := (jms_facts (T.setVm vm₁) (jck D 94) (jck D 86) xn.toNatClampNeg xm.toNatClampNeg i).1
        have f1 : (jms (T.setVm vm₁) (jck D 94) (jck D 86) xn.toNatClampNeg xm.toNatClampNeg i).heap.size = T.heap.size + 1 + i := f1
        have hlt3 : q < (jms (T.setVm vm₁) (jck D 94) (jck D 86) xn.toNatClampNeg xm.toNatClampNeg i).heap.size := by rw [f1]; omega
        show (((jms (T.setVm vm₁) (jck D 94) (jck D 86) xn.toNatClampNeg xm.toNatClampNeg i).pushCell (jmi (jck D 86) xm.toNatClampNeg)).setCell T.heap.size _).heap[q]? = _
        rw [State.heap_setCell_other (Nat.ne_of_gt hq), State.heap_pushCell_of_lt (h := hlt3)]
        exact ih q hq
    obtain ⟨t, t1, t2⟩ := kk lsA _ _ hL hR1 (fun q hq => by
      rcases List.mem_append.mp hq with z | z
      · exact g5 q z
      · obtain ⟨j, -, hj⟩ := List.mem_map.mp z
        rw [← hj]
        show jbs D ≤ T.heap.size
        omega) (fun q hq1 hq2 => by
      obtain ⟨w1, w2⟩ := g6 q hq1 hq2
      have hlt : q < T.heap.size := by
        have : T.heap[q]? = some s.heap[q] := by rw [w2]; exact Array.getElem?_eq_getElem hq2
        exact (Array.getElem?_eq_some_iff.mp this).1
      refine ⟨?_, by rw [hold _ q hlt]; exact w2⟩
      have key : ∀ i, jkd (jmh h xn.toNatClampNeg xm.toNatClampNeg i) (q + 1) = 0 := by
        intro i
        induction i with
        | zero => show (if q + 1 = jsz h + 1 then 94 else jkd h (q + 1)) = 0; rw [if_neg (by omega)]; exact w1
        | succ i ih =>
          show (if q + 1 = jsz (jmh h xn.toNatClampNeg xm.toNatClampNeg i) + 1 then 86 else jkd (jmh h xn.toNatClampNeg xm.toNatClampNeg i) (q + 1)) = 0
          rw [if_neg (by have := (jmh_facts h xn.toNatClampNeg xm.toNatClampNeg i).1; omega)]; exact ih
      exact key _) _ rfl XF
    refine ⟨t, ?_, t2⟩
    show Steps p.tables e below (T.setTop (F0 mm pc lsA (.int xm :: .int xn :: st.map vv))) t
    jvm_step X.here [hF.1, hdec]
    simp only [multianewarray.sem, wp_bind', W.resolveClassAt_links (State.method?_setTop (F0 mm pc lsA (.int xm :: .int xn :: st.map vv)) X.here.top) hg₁]
    rw [W.popN, if_neg (by decide)]
    refine ⟨F0 mm pc lsA (.int xm :: .int xn :: st.map vv), State.topJava?_setTop' (s := T.setVm vm₁) _ X.here.top, [.int xn, .int xm], st.map vv, rfl, rfl, ?_⟩
    simp only [List.mapM_cons, List.mapM_nil, wp_bind', wp_pure']
    refine jwp_make (V := "WireRelationsModel$V") (kA := kA₁) (kB := kB₁) (cV := comp2) hkA₁ (by rw [heA]; exact a3) hkB₁ (by rw [heB]; exact b3) hx.1 hy.1 hl1 hh1 hl2 hh2 (by show T.heap.size + 1 + _ ≤ _; omega) (by show T.slotsUsed + _ + _ ≤ _; omega) (fun d' acts' => ?_)
    have eS : ((T.setTop (F0 mm pc lsA (.int xm :: .int xn :: st.map vv))).setVm vm₁).setTop (F0 mm pc lsA (st.map vv)) = (T.setVm vm₁).setTop (F0 mm pc lsA (st.map vv)) := by
      show ((T.setVm vm₁).setTop (F0 mm pc lsA (.int xm :: .int xn :: st.map vv))).setTop _ = _
      rw [State.setTop_setTop]
    have t1 : Steps p.tables e below ((jms (T.setVm vm₁) (jck D 94) (jck D 86) xn.toNatClampNeg xm.toNatClampNeg xn.toNatClampNeg).setTop (F0 mm (pc + 4) lsA (.ref T.heap.size :: st.map vv))) t := by
      rw [hsz]; exact t1
    have eS2 : ((T.setTop (F0 mm pc lsA (.int xm :: .int xn :: st.map vv))).setVm vm₁).setTop { F0 mm pc lsA (.int xm :: .int xn :: st.map vv) with stack := st.map vv } = (T.setVm vm₁).setTop (F0 mm pc lsA (st.map vv)) := eS
    rw [eS2, jms_setTop]
    simp only [wp_bind', W.mark, W.pushRef, State.topJava?_setTop' _ XF.here.top, Option.some.injEq, exists_eq_left', State.setTop_setTop, State.heap_setTop]
    intro acts
    simp [jvm, XF.here.top]
    exact t1
end JMu
