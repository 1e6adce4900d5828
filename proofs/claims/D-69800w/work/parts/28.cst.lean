/-! constants of the pool that are references; static fields -/
section JCs
variable {D : JD} {d : Nat} {M : JM} {pc pc' : Nat} {ls ls' : List (Option JV)} {st st' : List JV} {h h1 : JH} {Q : JO → JH → Prop}
theorem jok_cst {j t : Nat} (hI : JInv D h) (hj : j < 373) (ht : jctg j = t) : jok h (vR t (jcs D j)) := by
  obtain ⟨h1, h2⟩ := hI.2.2.2.2.2.2.2.1 j hj
  rcases h2 with e | e
  · exact Or.inl e
  · refine Or.inr ?_
    show sbt (jkd h (jcs D j)) t = true
    rw [(hI.2.2.2.2.2.1 _ h1).1, ← ht]; exact e
theorem JFr.cst {p : Program} {l : Launch} {s : State} {m : MethodId} {meth : Method} {c : Code} (hF : JFr D M l p s m meth c) {idx j : Nat} (hj : jmS M idx = some j) (hlt : j < 345) : ∃ tx a, vk_R (jmY M).cls idx tx a s ∧ jcs D j = a + 1 := by
  obtain ⟨tx, a, h1, h2⟩ := (hF.2.1.2.2.2.2.2.1 _ (hF.2.2.2.1.2.2.2.2.2.2.2.2.2.2 idx j hj)).1 hlt
  exact ⟨tx, a, vk_R.warm hF.2.2.1 h1, h2⟩
theorem jw_ldcS {idx j t : Nat} (hd : jmT M pc = some (.ldc idx, 2)) (hj : jmS M idx = some j) (hlt : Nat.ble j 344 = true) (ht : jctg j = t) (k : JW D d M pc' ls (vR t (jcs D j) :: st) h Q) (hp : pc + 2 = pc' := by rfl) : JW D d M pc ls st h Q := by
  subst hp
  have hlt := Nat.ble_eq.mp hlt
  refine jw_st (fun hI hl hs => ⟨hI, jle.rf h, hl, fun v hv => ?_⟩) (fun p l e R s m args below meth c H locs c0 u0 Z lsA K hI hs hF hR hL g1 g2 g3 g4 g5 g6 kk => ?_) k
  · rcases List.mem_cons.mp hv with q | q
    · rw [q]; exact jok_cst hI (by omega) ht
    · exact hs v q
  · obtain ⟨tx, a, h1, h2⟩ := hF.cst hj (by omega)
    have kk := kk lsA H locs hL hR g5 g6
    rw [h2] at kk
    exact va_ldcS hF.1 hF.2.2.2.2.1 hF.2.2.2.2.2.2.2.2.2.1 h1 (hF.2.2.2.1.1 _ _ hd) kk
theorem jw_ldcwS {idx j t : Nat} (hd : jmT M pc = some (.ldc_w idx, 3)) (hj : jmS M idx = some j) (hlt : Nat.ble j 344 = true) (ht : jctg j = t) (k : JW D d M pc' ls (vR t (jcs D j) :: st) h Q) (hp : pc + 3 = pc' := by rfl) : JW D d M pc ls st h Q := by
  subst hp
  have hlt := Nat.ble_eq.mp hlt
  refine jw_st (fun hI hl hs => ⟨hI, jle.rf h, hl, fun v hv => ?_⟩) (fun p l e R s m args below meth c H locs c0 u0 Z lsA K hI hs hF hR hL g1 g2 g3 g4 g5 g6 kk => ?_) k
  · rcases List.mem_cons.mp hv with q | q
    · rw [q]; exact jok_cst hI (by omega) ht
    · exact hs v q
  · obtain ⟨tx, a, h1, h2⟩ := hF.cst hj (by omega)
    have kk := kk lsA H locs hL hR g5 g6
    rw [h2] at kk
    intro T hT X
    obtain ⟨t', a1, b1⟩ := kk T hT X
    exact ⟨t', jX_ldcw X hF.1 hF.2.2.2.2.2.2.2.2.2.1 (text := tx) (a := a) (h1.1) (h1.2) (g := F0 m pc lsA (st.map vv)) rfl (by rw [hF.2.2.2.2.1]; exact hF.2.2.2.1.1 _ _ hd) t' a1, b1⟩
theorem jW_gets {p : Program} {l : Launch} {e : Env} {R : Room} {s : State} {m : MethodId} {args : Array Value} {below : List Frame} {meth : Method} {c : Code} {H : Heap} {locs : List Loc} {cells slots : Nat} {Z : State → Prop} {idx : Nat} {v : Value} {lsA : Array Slot} {rest : List Value} (hF : JFr D M l p s m meth c) (hR : JRl D h H) (hs : jstat D (jmY M).cls idx v) (hd : jmT M pc = some (.getstatic idx, 3))
    (kk : W p l e R s m args below meth c H locs cells slots Z (F0 m (pc + 3) lsA (v :: rest))) : W p l e R s m args below meth c H locs cells slots Z (F0 m pc lsA rest) := by
  obtain ⟨C, n, dd, cf, kf, fi, f, a, cell, e0, e1, e2, e3, e4, e5, e6, e7⟩ := hs
  obtain ⟨kf', e8, he⟩ := State.fieldFound?_setVm (s := jd0 D) hF.alike e1
  have e8 : s.fieldFound? C n dd = some (cf, kf', fi, f) := by simpa only [State.fieldFound?, State.vm_setVm] using e8
  have ha : a < jbs D := (Array.getElem?_eq_some_iff.mp e5).1
  have e9 : H[a]? = some cell := by rw [hR.2.1 a ha]; exact e5
  have e10 : kf'.init = .initialized := by rw [he]; exact e3
  have e11 : kf'.statics = some a := by rw [he]; exact e4
  rcases e0 with z | ⟨host, z⟩
  · exact W.gets hF.1 hF.2.2.2.2.1 hF.2.2.2.2.2.2.2.2.2.1 (hF.word z args) e8 e2 e10 e11 e9 e6 e7 rfl (hF.2.2.2.1.1 _ _ hd) kk
  · exact va_WgetsN hF.1 hF.2.2.2.2.1 hF.2.2.2.2.2.2.2.2.2.1 (hF.nestF z args) e8 e2 e10 e11 e9 e6 e7 rfl (hF.2.2.2.1.1 _ _ hd) kk
theorem jw_getsR {idx j t : Nat} (hd : jmT M pc = some (.getstatic idx, 3)) (hj : jmS M idx = some j) (hlt : (Nat.ble 345 j && Nat.ble j 372) = true) (ht : jctg j = t) (k : JW D d M pc' ls (vR t (jcs D j) :: st) h Q) (hp : pc + 3 = pc' := by rfl) : JW D d M pc ls st h Q := by
  subst hp
  rw [Bool.and_eq_true, Nat.ble_eq, Nat.ble_eq] at hlt
  refine jw_st (fun hI hl hs => ⟨hI, jle.rf h, hl, fun v hv => ?_⟩) (fun p l e R s m args below meth c H locs c0 u0 Z lsA K hI hs hF hR hL g1 g2 g3 g4 g5 g6 kk => ?_) k
  · rcases List.mem_cons.mp hv with q | q
    · rw [q]; exact jok_cst hI (by omega) ht
    · exact hs v q
  · exact jW_gets hF hR ((hF.2.1.2.2.2.2.2.1 _ (hF.2.2.2.1.2.2.2.2.2.2.2.2.2.2 idx j hj)).2.1 hlt.1) hd (kk lsA H locs hL hR g5 g6)
theorem jw_getsI {idx : Nat} {v : Int32} (hd : jmT M pc = some (.getstatic idx, 3)) (hv : jmI M idx = some v) (hs : ((jmY M).cls, idx, v) ∈ jsin) (k : JW D d M pc' ls (vI v :: st) h Q) (hp : pc + 3 = pc' := by rfl) : JW D d M pc ls st h Q := by
  subst hp
  refine jw_st (fun hI hl hs => ⟨hI, jle.rf h, hl, fun v hv => ?_⟩) (fun p l e R s m args below meth c H locs c0 u0 Z lsA K hI hs' hF hR hL g1 g2 g3 g4 g5 g6 kk => ?_) k
  · rcases List.mem_cons.mp hv with q | q
    · rw [q]; trivial
    · exact hs v q
  · exact jW_gets hF hR (hF.2.1.2.2.2.2.2.2 _ hs) hd (kk lsA H locs hL hR g5 g6)
end JCs
