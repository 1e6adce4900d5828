/-! a raw exception: its ghost bit; Throwable's fields set to null -/
section JRw
variable {D : JD} {d : Nat} {M M' : JM} {pc pc' : Nat} {ls ls' : List (Option JV)} {st st' : List JV} {h h1 : JH} {Q : JO → JH → Prop}
theorem jrl_330 {r : Nat} {H : Heap} (hR : JRl D h H) : JRl D (wfi h 330 r 1) H := by
  refine ⟨hR.1, hR.2.1, fun b hb => ?_⟩
  obtain ⟨cl, d1, d2⟩ := hR.2.2 b hb
  obtain ⟨c1, c2, c3, c4, c5, c6⟩ := d2
  refine ⟨cl, d1, c1, c2, c3, fun z => ⟨(c4 z).1, fun w1 w2 => (c4 z).2 w1 ?_⟩, fun z F hFk => ?_, fun z => c6 z⟩
  · have w2 : (if 330 = 330 ∧ b + 1 = r then (1 : Int32) else jfi h 330 (b + 1)) = 0 := w2
    by_cases hbr : b + 1 = r
    · rw [if_pos ⟨rfl, hbr⟩] at w2; cases w2
    · rw [if_neg (fun q => hbr q.2)] at w2; exact w2
  · have hkb : jkd h (b + 1) < 226 := by
      rcases Nat.lt_or_ge (jkd h (b + 1)) 226 with w | w
      · exact w
      · exfalso
        have hfe : fld (jkd h (b + 1)) = [] := by unfold fld; rw [Nat.ble_eq.mpr w]; rfl
        have hFk : F ∈ fld (jkd h (b + 1)) := hFk
        rw [hfe] at hFk; cases hFk
    rw [jfv_330 (by have := jt_fldlt hkb hFk; omega)]
    exact c5 z F hFk
theorem jw_ghost {r : Nat} (hx : jexc (jkd h r) = true) (k : JW D d M pc ls st (wfi h 330 r 1) Q) : JW D d M pc ls st h Q := by
  have hw : wrt (jkd h r) = true := by rcases jexc_cases hx with e | e | e | e | e | e <;> rw [e] <;> rfl
  have hk0 : jkd h r ≠ 0 := fun z => by rw [z] at hx; cases hx
  intro hI hl hs
  have hI1 : JInv D (wfi h 330 r 1) := hI.wfi (hI.2.1 r hw) (hI.1 r hk0).2.1
  obtain ⟨r', h', hx', hq⟩ := k hI1 hl hs
  refine ⟨r', h', fun _ _ _ => ?_, hq⟩
  obtain ⟨⟨a1, a2, a3⟩, b⟩ := hx' hI1 hl hs
  refine ⟨⟨a1, a2, a3⟩, fun p l e R s m args below meth c H locs c0 u0 K lsA hF hR hL g1 g2 g3 g4 g5 g6 g7 g8 => ?_⟩
  exact b p l e R s m args below meth c H locs c0 u0 K lsA hF (jrl_330 hR) hL g1 g2 g3 g4 g5 g6 g7 g8
theorem jw_putU0 {idx t t2 r k : Nat} {nm ds : String} {ty : FieldType} (hd : jmT M pc = some (.putfield idx, 3)) (hl : Cond.fieldLink (jmY M).cls idx Bundle.tN nm ds ∈ lw_all) (hlay : Cond.lays (jcn k) Bundle.tN nm ds ∈ lw_all) (hds : parseFieldDescriptor ds = some ty) (hrf : ty.isReference = true)
    (hkd : jkd h r = k) (hx : jexc k = true) (hraw : jfi h 330 r = 0) (hr : r ≠ 0) (k2 : JW D d M pc' ls st h Q) (hp : pc + 3 = pc' := by rfl) : JW D d M pc ls (vR t2 0 :: vR t r :: st) h Q := by
  subst hp
  have hj : job_ k = true := by rcases jexc_cases hx with rfl | rfl | rfl | rfl | rfl | rfl <;> rfl
  have hw : wrt k = true := by rcases jexc_cases hx with rfl | rfl | rfl | rfl | rfl | rfl <;> rfl
  refine jw_st (fun hI hl hs => ⟨hI, jle.rf h, hl, fun v hv => hs v (by simp [hv])⟩) (fun p l e R s m args below meth c H locs c0 u0 Z lsA K hI hs hF hR hL g1 g2 g3 g4 g5 g6 kk => ?_) k2
  obtain ⟨a, rfl⟩ : ∃ a, r = a + 1 := ⟨r - 1, by omega⟩
  have hk0 : jkd h (a + 1) ≠ 0 := by rw [hkd]; exact fun z => by rw [z] at hx; cases hx
  obtain ⟨q, cell, e0, hc, hcell⟩ := jcell hR hk0 hr
  obtain rfl : a = q := by omega
  have hba : jbs D < a + 1 := hI.2.1 (a + 1) (by rw [hkd]; exact hw)
  obtain ⟨kX, hkX, hcl⟩ := (hcell.2.2.2.1 (by rw [hkd]; exact hw)).2 (by rw [hkd]; exact hx) hraw
  rw [hkd] at hkX hcl
  obtain ⟨hfc, kS, hkS, hord⟩ := hF.cls hj
  obtain ⟨kS', hkS', he⟩ := hF.alike.2.2 _ _ hkX
  cases hkS.symm.trans hkS'
  have hcl2 : cell = freshCell (jck D k) kS := by rw [hcl, he]
  have hlw := hF.word hlay args
  obtain ⟨c1, k1, c2, k2', i2, f, y1, y2, y3, y4, y5, y6, y7, -⟩ := Cond.lays_spec hlw
  cases hfc.symm.trans y1
  cases hkS.symm.trans y2
  have hty := (State.fieldFound?_type y3 hds).2
  have hfit := u_fits (v := .null) hfc hkS hord (Or.inl hlw) y3 hds (by cases ty <;> first | (cases hrf; done) | rfl) (by cases ty <;> first | (cases hrf; done) | rfl)
  have hslot : cell.slots[f.slot]? = some .null := by
    rw [hcl2]
    have := fresh_default (c := jck D k) y7
    rw [hty] at this
    rw [this]
    cases ty <;> first | (cases hrf; done) | rfl
  have hlt : f.slot < cell.slots.size := (Array.getElem?_eq_some_iff.mp hslot).1
  have hsame : cell.setSlot f.slot .null = cell := by
    unfold Cell.setSlot
    have : cell.slots.setIfInBounds f.slot .null = cell.slots := by
      apply Array.ext_getElem?
      intro i
      by_cases hi : f.slot = i
      · subst hi; rw [hslot]; simp [Array.getElem?_setIfInBounds, hlt]
      · rw [Array.getElem?_setIfInBounds_ne hi]
    rw [this]
  have hH : H.setIfInBounds a (cell.setSlot f.slot .null) = H := by
    rw [hsame]
    apply Array.ext_getElem?
    intro i
    by_cases hi : a = i
    · subst hi; rw [hc]; simp [Array.getElem?_setIfInBounds, (Array.getElem?_eq_some_iff.mp hc).1]
    · rw [Array.getElem?_setIfInBounds_ne hi]
  refine W.putf hF.1 hF.2.2.2.2.1 hF.2.2.2.2.2.2.2.2.2.1 (hF.word hl args) y3 y4 (Or.inl y5) hc hcell.2.1 hlt hfit.1 (by rw [hcell.1, (hcell.2.2.2.1 (by rw [hkd]; exact hw)).1, hkd]; exact hfit.2) (g := F0 m pc lsA (.null :: .ref a :: st.map vv)) rfl rfl (hF.2.2.2.1.1 _ _ hd) ?_
  rw [hH]
  exact kk lsA H (locs ++ [⟨a, f.slot⟩]) hL hR (fun q hq => by
    rcases List.mem_append.mp hq with z | z
    · exact g5 q z
    · simp at z; rw [z]; show jbs D ≤ a; omega) g6
end JRw
