/-! arrays -/
section JAr
variable {D : JD} {d : Nat} {M : JM} {pc pc' : Nat} {ls ls' : List (Option JV)} {st st' : List JV} {h h1 : JH} {Q : JO → JH → Prop}
/-- the int j is the index i -/
def jix (j : Int32) (i : Nat) : Prop := ¬ j < 0 ∧ j.toNatClampNeg = i
theorem jix_nI {i : Nat} (h : i < 2 ^ 31) : jix (nI i) i := ⟨nI_pos h, nI_clamp h⟩
theorem jisarr {s : State} {p : Program} {l : Launch} {m : MethodId} {meth : Method} {c : Code} {r : Nat} {cell : Cell} {ty : FieldType} (hF : JFr D M l p s m meth c) (hc : JCell D h r cell) (hty : aty (jkd h r) = some ty) : s.isArrayOf cell ty := by
  obtain ⟨-, kA, comp, h2, h3, -⟩ := hF.arr (jkd h r) ty hty
  refine ⟨fun k e => ?_, kA, by rw [hc.1]; exact h2, comp, h3⟩
  have := hc.2.2.1
  rw [e] at this
  cases this
theorem jarrobj {t r : Nat} (hv : jok h (vR t r)) (hr : r ≠ 0) (ht : jar_ t = true) : jkd h r ≠ 0 ∧ jkd h r < 226 ∧ aty (jkd h r) = aty t ∧ atk (jkd h r) = atk t ∧ atg (jkd h r) = atg t := by
  rcases hv with e | e
  · exact absurd e hr
  · have e : sbt (jkd h r) t = true := e
    exact ⟨sbt_ne0 e, sbt_lt e, jt_arr0 _ (sbt_lt e) t (sbt_iff.mp e) ht⟩
theorem jw_alen {t r : Nat} (hd : jmT M pc = some (.arraylength, 1)) (ht : jar_ t = true) (hr : r ≠ 0) (k : JW D d M pc' ls (vI (nI (jln h r)) :: st) h Q) (hp : pc + 1 = pc' := by rfl) : JW D d M pc ls (vR t r :: st) h Q := by
  subst hp
  refine jw_st (fun hI hl hs => ⟨hI, jle.rf h, hl, fun v hv => ?_⟩) (fun p l e R s m args below meth c H locs c0 u0 Z lsA K hI hs hF hR hL g1 g2 g3 g4 g5 g6 kk => ?_) k
  · rcases List.mem_cons.mp hv with q | q
    · rw [q]; trivial
    · exact hs v (List.mem_cons_of_mem _ q)
  · obtain ⟨o1, o2, o3, o4, o5⟩ := jarrobj (hs _ List.mem_cons_self) hr ht
    obtain ⟨q, cell, rfl, hc, hcell⟩ := jcell hR o1 hr
    cases hty : aty (jkd h (q + 1)) with
    | none =>
      cases hj : jar_ (jkd h (q + 1)) with
      | true => exact absurd hty (jt_acl0 _ o2 hj).1
      | false =>
        rcases hs _ List.mem_cons_self with e | e
        · exact absurd e hr
        · exact absurd ht (by rw [jt_nar0 _ o2 (hI.1 _ o1).2.2 hj _ (sbt_iff.mp e)]; decide)
    | some ty => exact W.alen hF.1 hF.2.2.2.2.1 hc (jisarr hF hcell hty) (by rw [(hcell.2.2.2.2.2 (by rw [hty]; simp)).1]; rfl) rfl rfl (hF.2.2.2.1.1 _ _ hd) (kk lsA H locs hL hR g5 g6)
theorem jw_iald {t r i : Nat} {j : Int32} (hd : jmT M pc = some (.iaload, 1)) (ht : jar_ t = true) (hty : aty t = some .int) (htk : atk t = 0) (hr : r ≠ 0) (hj : jix j i) (hi : i < jln h r) (k : JW D d M pc' ls (vI (jai h r i) :: st) h Q) (hp : pc + 1 = pc' := by rfl) : JW D d M pc ls (vI j :: vR t r :: st) h Q := by
  subst hp
  refine jw_st (fun hI hl hs => ⟨hI, jle.rf h, hl, fun v hv => ?_⟩) (fun p l e R s m args below meth c H locs c0 u0 Z lsA K hI hs hF hR hL g1 g2 g3 g4 g5 g6 kk => ?_) k
  · rcases List.mem_cons.mp hv with q | q
    · rw [q]; exact trivial
    · exact hs v (by simp [q])
  · obtain ⟨o1, o2, o3, o4, o5⟩ := jarrobj (hs _ (List.mem_cons_of_mem _ List.mem_cons_self)) hr ht
    obtain ⟨q, cell, rfl, hc, hcell⟩ := jcell hR o1 hr
    have hty' := o3.trans hty
    have hev : cell.slots[j.toNatClampNeg]? = some (vv (vI (jai h (q + 1) i))) := by
      rw [hj.2, (hcell.2.2.2.2.2 (by rw [hty']; simp)).2 i hi]
      unfold jev
      rw [o4, show atk t = 0 from htk]
      rfl
    exact W.iald hF.1 hF.2.2.2.2.1 hc (jisarr hF hcell hty') hcell.2.1 (by rw [(hcell.2.2.2.2.2 (by rw [hty']; simp)).1, hj.2]; exact fun z => by rcases z with z | z; exact hj.1 z; omega) hev rfl rfl (hF.2.2.2.1.1 _ _ hd) (kk lsA H locs hL hR g5 g6)
theorem jw_bald {t r i : Nat} {j : Int32} (hd : jmT M pc = some (.baload, 1)) (ht : jar_ t = true) (hty : aty t = some .byte) (htk : atk t = 0) (hr : r ≠ 0) (hj : jix j i) (hi : i < jln h r) (k : JW D d M pc' ls (vI (jai h r i) :: st) h Q) (hp : pc + 1 = pc' := by rfl) : JW D d M pc ls (vI j :: vR t r :: st) h Q := by
  subst hp
  refine jw_st (fun hI hl hs => ⟨hI, jle.rf h, hl, fun v hv => ?_⟩) (fun p l e R s m args below meth c H locs c0 u0 Z lsA K hI hs hF hR hL g1 g2 g3 g4 g5 g6 kk => ?_) k
  · rcases List.mem_cons.mp hv with q | q
    · rw [q]; exact trivial
    · exact hs v (by simp [q])
  · obtain ⟨o1, o2, o3, o4, o5⟩ := jarrobj (hs _ (List.mem_cons_of_mem _ List.mem_cons_self)) hr ht
    obtain ⟨q, cell, rfl, hc, hcell⟩ := jcell hR o1 hr
    have hty' := o3.trans hty
    have hev : cell.slots[j.toNatClampNeg]? = some (vv (vI (jai h (q + 1) i))) := by
      rw [hj.2, (hcell.2.2.2.2.2 (by rw [hty']; simp)).2 i hi]
      unfold jev
      rw [o4, show atk t = 0 from htk]
      rfl
    exact W.bald hF.1 hF.2.2.2.2.1 hc (jisarr hF hcell hty') hcell.2.1 (by rw [(hcell.2.2.2.2.2 (by rw [hty']; simp)).1, hj.2]; exact fun z => by rcases z with z | z; exact hj.1 z; omega) hev rfl rfl (hF.2.2.2.1.1 _ _ hd) (kk lsA H locs hL hR g5 g6)
theorem jw_zald {t r i : Nat} {j : Int32} (hd : jmT M pc = some (.baload, 1)) (ht : jar_ t = true) (hty : aty t = some .boolean) (htk : atk t = 0) (hr : r ≠ 0) (hj : jix j i) (hi : i < jln h r) (k : JW D d M pc' ls (vI (jai h r i) :: st) h Q) (hp : pc + 1 = pc' := by rfl) : JW D d M pc ls (vI j :: vR t r :: st) h Q := by
  subst hp
  refine jw_st (fun hI hl hs => ⟨hI, jle.rf h, hl, fun v hv => ?_⟩) (fun p l e R s m args below meth c H locs c0 u0 Z lsA K hI hs hF hR hL g1 g2 g3 g4 g5 g6 kk => ?_) k
  · rcases List.mem_cons.mp hv with q | q
    · rw [q]; exact trivial
    · exact hs v (by simp [q])
  · obtain ⟨o1, o2, o3, o4, o5⟩ := jarrobj (hs _ (List.mem_cons_of_mem _ List.mem_cons_self)) hr ht
    obtain ⟨q, cell, rfl, hc, hcell⟩ := jcell hR o1 hr
    have hty' := o3.trans hty
    have hev : cell.slots[j.toNatClampNeg]? = some (vv (vI (jai h (q + 1) i))) := by
      rw [hj.2, (hcell.2.2.2.2.2 (by rw [hty']; simp)).2 i hi]
      unfold jev
      rw [o4, show atk t = 0 from htk]
      rfl
    exact W.zald hF.1 hF.2.2.2.2.1 hc (jisarr hF hcell hty') hcell.2.1 (by rw [(hcell.2.2.2.2.2 (by rw [hty']; simp)).1, hj.2]; exact fun z => by rcases z with z | z; exact hj.1 z; omega) hev rfl rfl (hF.2.2.2.1.1 _ _ hd) (kk lsA H locs hL hR g5 g6)
theorem jw_sald {t r i : Nat} {j : Int32} (hd : jmT M pc = some (.saload, 1)) (ht : jar_ t = true) (hty : aty t = some .short) (htk : atk t = 0) (hr : r ≠ 0) (hj : jix j i) (hi : i < jln h r) (k : JW D d M pc' ls (vI (jai h r i) :: st) h Q) (hp : pc + 1 = pc' := by rfl) : JW D d M pc ls (vI j :: vR t r :: st) h Q := by
  subst hp
  refine jw_st (fun hI hl hs => ⟨hI, jle.rf h, hl, fun v hv => ?_⟩) (fun p l e R s m args below meth c H locs c0 u0 Z lsA K hI hs hF hR hL g1 g2 g3 g4 g5 g6 kk => ?_) k
  · rcases List.mem_cons.mp hv with q | q
    · rw [q]; exact trivial
    · exact hs v (by simp [q])
  · obtain ⟨o1, o2, o3, o4, o5⟩ := jarrobj (hs _ (List.mem_cons_of_mem _ List.mem_cons_self)) hr ht
    obtain ⟨q, cell, rfl, hc, hcell⟩ := jcell hR o1 hr
    have hty' := o3.trans hty
    have hev : cell.slots[j.toNatClampNeg]? = some (vv (vI (jai h (q + 1) i))) := by
      rw [hj.2, (hcell.2.2.2.2.2 (by rw [hty']; simp)).2 i hi]
      unfold jev
      rw [o4, show atk t = 0 from htk]
      rfl
    exact W.sald hF.1 hF.2.2.2.2.1 hc (jisarr hF hcell hty') hcell.2.1 (by rw [(hcell.2.2.2.2.2 (by rw [hty']; simp)).1, hj.2]; exact fun z => by rcases z with z | z; exact hj.1 z; omega) hev rfl rfl (hF.2.2.2.1.1 _ _ hd) (kk lsA H locs hL hR g5 g6)
theorem jw_lald {t r i : Nat} {j : Int32} (hd : jmT M pc = some (.laload, 1)) (ht : jar_ t = true) (hty : aty t = some .long) (htk : atk t = 1) (hr : r ≠ 0) (hj : jix j i) (hi : i < jln h r) (k : JW D d M pc' ls (vL (jal h r i) :: st) h Q) (hp : pc + 1 = pc' := by rfl) : JW D d M pc ls (vI j :: vR t r :: st) h Q := by
  subst hp
  refine jw_st (fun hI hl hs => ⟨hI, jle.rf h, hl, fun v hv => ?_⟩) (fun p l e R s m args below meth c H locs c0 u0 Z lsA K hI hs hF hR hL g1 g2 g3 g4 g5 g6 kk => ?_) k
  · rcases List.mem_cons.mp hv with q | q
    · rw [q]; exact trivial
    · exact hs v (by simp [q])
  · obtain ⟨o1, o2, o3, o4, o5⟩ := jarrobj (hs _ (List.mem_cons_of_mem _ List.mem_cons_self)) hr ht
    obtain ⟨q, cell, rfl, hc, hcell⟩ := jcell hR o1 hr
    have hty' := o3.trans hty
    have hev : cell.slots[j.toNatClampNeg]? = some (vv (vL (jal h (q + 1) i))) := by
      rw [hj.2, (hcell.2.2.2.2.2 (by rw [hty']; simp)).2 i hi]
      unfold jev
      rw [o4, show atk t = 1 from htk]
      rfl
    exact W.lald hF.1 hF.2.2.2.2.1 hc (jisarr hF hcell hty') hcell.2.1 (by rw [(hcell.2.2.2.2.2 (by rw [hty']; simp)).1, hj.2]; exact fun z => by rcases z with z | z; exact hj.1 z; omega) hev rfl rfl (hF.2.2.2.1.1 _ _ hd) (kk lsA H locs hL hR g5 g6)
theorem jw_aald {t r i : Nat} {t' : Nat} {j : Int32} (hd : jmT M pc = some (.aaload, 1)) (ht : jar_ t = true) (htk : atk t = 2) (htg : atg t = t') (hr : r ≠ 0) (hj : jix j i) (hi : i < jln h r) (k : JW D d M pc' ls (vR t' (jar h r i) :: st) h Q) (hp : pc + 1 = pc' := by rfl) : JW D d M pc ls (vI j :: vR t r :: st) h Q := by
  subst hp
  refine jw_st (fun hI hl hs => ⟨hI, jle.rf h, hl, fun v hv => ?_⟩) (fun p l e R s m args below meth c H locs c0 u0 Z lsA K hI hs hF hR hL g1 g2 g3 g4 g5 g6 kk => ?_) k
  · rcases List.mem_cons.mp hv with q | q
    · rw [q]; exact by rw [← htg, ← (jarrobj (hs _ (List.mem_cons_of_mem _ List.mem_cons_self)) hr ht).2.2.2.2]; exact hI.2.2.2.1 r i
    · exact hs v (by simp [q])
  · obtain ⟨o1, o2, o3, o4, o5⟩ := jarrobj (hs _ (List.mem_cons_of_mem _ List.mem_cons_self)) hr ht
    obtain ⟨q, cell, rfl, hc, hcell⟩ := jcell hR o1 hr
    have o6 := o4.trans htk
    cases hty' : aty (jkd h (q + 1)) with
    | none =>
      cases hj' : jar_ (jkd h (q + 1)) with
      | true => exact absurd hty' (jt_acl0 _ o2 hj').1
      | false =>
        rcases hs _ (List.mem_cons_of_mem _ List.mem_cons_self) with e | e
        · exact absurd e hr
        · exact absurd ht (by rw [jt_nar0 _ o2 (hI.1 _ o1).2.2 hj' _ (sbt_iff.mp e)]; decide)
    | some ty =>
      have hev : cell.slots[j.toNatClampNeg]? = some (vv (vR t' (jar h (q + 1) i))) := by
        rw [hj.2, (hcell.2.2.2.2.2 (by rw [hty']; simp)).2 i hi]
        unfold jev
        rw [o6]
        rfl
      exact W.aald hF.1 hF.2.2.2.2.1 hc (jisarr hF hcell hty') (jt_aref0 _ o2 o6 ty hty') hcell.2.1 (by rw [(hcell.2.2.2.2.2 (by rw [hty']; simp)).1, hj.2]; exact fun z => by rcases z with z | z; exact hj.1 z; omega) hev rfl rfl (hF.2.2.2.1.1 _ _ hd) (kk lsA H locs hL hR g5 g6)
end JAr
