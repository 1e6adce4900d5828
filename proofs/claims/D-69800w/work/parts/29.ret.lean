/-! a method's end: it returns, it throws -/
section JRt
variable {D : JD} {d : Nat} {M : JM} {pc pc' : Nat} {ls ls' : List (Option JV)} {st st' : List JV} {h h1 : JH} {Q : JO → JH → Prop}
theorem jW_mono {p : Program} {l : Launch} {e : Env} {R : Room} {s : State} {m : MethodId} {args : Array Value} {below : List Frame} {meth : Method} {c : Code} {H : Heap} {locs : List Loc} {cells slots : Nat} {Y Z : State → Prop} {g : JFrame} (k : W p l e R s m args below meth c H locs cells slots Y g) (f : ∀ t, Y t → Z t) : W p l e R s m args below meth c H locs cells slots Z g := by
  intro T hT X
  obtain ⟨t, a, b⟩ := k T hT X
  exact ⟨t, a, f t b⟩
theorem jw_end {r : JO} (hr : JInv D h → (∀ v ∈ st, jok h v) → jokO h r) (hq : Q r h)
    (f : ∀ (p : Program) (l : Launch) (e : Env) (R : Room) (s : State) (m : MethodId) (args : Array Value) (below : List Frame) (meth : Method) (c : Code) (H : Heap) (locs : List Loc) (cells slots : Nat) (lsA : Array Slot),
      JFr D M l p s m meth c → (∀ q ∈ locs, jbs D ≤ q.base) → JRl D h H → JInv D h → (∀ v ∈ st, jok h v) → W p l e R s m args below meth c H locs cells slots (fun t => ∃ o, t.status = .running ∧ Ended t below o ∧ jout r o ∧ s.WarmedH t.vm ∧ t.heap = H ∧ ∃ L, (∀ q ∈ L, jbs D ≤ q.base) ∧ s.sameButNew ({ t with vm := s.vm } : State) L cells slots) (F0 m pc lsA (st.map vv))) :
    JW D d M pc ls st h Q := by
  intro hI hl hs
  refine ⟨r, h, fun _ _ _ => ⟨⟨hI, hr hI hs, jle.rf h⟩, fun p l e R s m args below meth c H locs c0 u0 K lsA hF hR hL g1 g2 g3 g4 g5 g6 g7 g8 => ?_⟩, hq⟩
  refine jW_mono (f p l e R s m args below meth c H locs _ _ lsA hF g7 hR hI hs) fun t ht => ?_
  obtain ⟨o, t1, t2, t3, t4, t5, L, t6, t7⟩ := ht
  exact ⟨o, t1, t2, t3, t4, by rw [t5]; exact hR, by rw [t5]; exact g8, L, t6, t7⟩
theorem jMQ {below : List Frame} {args : Array Value} {s t : State} {cells slots : Nat} {H : Heap} {v : Option JV} (hm : MQ below (fun _ _ o t => o = .returned (v.map vv) ∧ t.heap = H) args s cells slots (fun q => jbs D ≤ q) t) :
    ∃ o, t.status = .running ∧ Ended t below o ∧ jout (.inl v) o ∧ s.WarmedH t.vm ∧ t.heap = H ∧ ∃ L, (∀ q ∈ L, jbs D ≤ q.base) ∧ s.sameButNew ({ t with vm := s.vm } : State) L cells slots := by
  obtain ⟨o, t1, t2, ⟨t3, t4⟩, L, ⟨-, t5, t6⟩, t7⟩ := hm
  exact ⟨o, t1, t2, t3, t5, t4, L, t7, t6⟩
theorem jw_ireturn {v : Int32} {ty : FieldType} (hd : jmT M pc = some (.ireturn, 1)) (hR : jmR M = some ty) (hn : narrow ty (.int v) = .int v) (hq : Q (.inl (some (vI v))) h) : JW D d M pc ls [vI v] h Q :=
  jw_end (r := .inl (some (vI v))) (fun _ _ => trivial) hq (fun p l e R s m args below meth c H locs cells slots lsA hF g7 _ _ _ =>
    jW_mono (W.zret (v := v) (ty := ty) (Qc := fun _ _ o t => o = .returned ((some (vI v)).map vv) ∧ t.heap = H) (free := fun q => jbs D ≤ q) hF.1 hF.2.2.2.2.1 (hF.2.2.2.2.2.2.1.trans hR) hn (fun t ht _ => ⟨rfl, ht⟩) g7 (hF.2.2.2.1.1 _ _ hd) (hlocks := hF.2.2.2.2.2.2.2.1)) (fun t ht => jMQ ht))
theorem jw_lreturn {v : Int64} (hd : jmT M pc = some (.lreturn, 1)) (hR : jmR M = some .long) (hq : Q (.inl (some (vL v))) h) : JW D d M pc ls [vL v] h Q :=
  jw_end (r := .inl (some (vL v))) (fun _ _ => trivial) hq (fun p l e R s m args below meth c H locs cells slots lsA hF g7 _ _ _ =>
    jW_mono (W.lret (v := v) (Qc := fun _ _ o t => o = .returned ((some (vL v)).map vv) ∧ t.heap = H) (free := fun q => jbs D ≤ q) hF.1 hF.2.2.2.2.1 (hF.2.2.2.2.2.2.1.trans hR) (fun t ht _ => ⟨rfl, ht⟩) g7 (hF.2.2.2.1.1 _ _ hd) (hlocks := hF.2.2.2.2.2.2.2.1)) (fun t ht => jMQ ht))
theorem jw_return (hd : jmT M pc = some (.return_, 1)) (hR : jmR M = none) (hq : Q (.inl none) h) : JW D d M pc ls [] h Q :=
  jw_end (r := .inl none) (fun _ _ => trivial) hq (fun p l e R s m args below meth c H locs cells slots lsA hF g7 _ _ _ =>
    jW_mono (W.vret (Qc := fun _ _ o t => o = .returned ((none : Option JV).map vv) ∧ t.heap = H) (free := fun q => jbs D ≤ q) hF.1 hF.2.2.2.2.1 (hF.2.2.2.2.2.2.1.trans hR) (fun t ht _ => ⟨rfl, ht⟩) g7 (hF.2.2.2.1.1 _ _ hd) (hlocks := hF.2.2.2.2.2.2.2.1)) (fun t ht => jMQ ht))
theorem jw_areturn {t r g : Nat} {ty : FieldType} (hd : jmT M pc = some (.areturn, 1)) (hR : jmR M = some ty) (hrf : ty.isReference = true) (hg : jmG M = g) (ht : sbt t g = true) (hq : Q (.inl (some (vR g r))) h) : JW D d M pc ls [vR t r] h Q :=
  jw_end (r := .inl (some (vR g r))) (fun _ hs => by
    rcases hs _ List.mem_cons_self with e | e
    · exact Or.inl e
    · exact Or.inr (sbt_trans e ht)) hq (fun p l e R s m args below meth c H locs cells slots lsA hF g7 _ _ _ =>
    jW_mono (W.aret (v := rv r) (rt := ty) (Qc := fun _ _ o t => o = .returned ((some (vR g r)).map vv) ∧ t.heap = H) (free := fun q => jbs D ≤ q) hF.1 hF.2.2.2.2.1 (hF.2.2.2.2.2.2.1.trans hR) (by cases ty <;> first | (cases hrf; done) | exact Or.inl ⟨_, rfl⟩ | exact Or.inr ⟨_, rfl⟩) (by cases r with | zero => exact Or.inl rfl | succ a => exact Or.inr ⟨a, rfl⟩) (fun t ht _ => ⟨rfl, ht⟩) g7 (hF.2.2.2.1.1 _ _ hd) (hlocks := hF.2.2.2.2.2.2.2.1)) (fun t ht => jMQ ht))
/-- no handler stands over the pc -/
def jnoh (M : JM) (pc : Nat) : Bool := (jmH M).all fun q => !(Nat.ble q.1 pc && Nat.blt pc q.2.1)
theorem jnoh_out {c : Code} (h : jnoh M pc = true) (he : c.exceptionTable.toList.map (fun h => (h.startPc, h.endPc, h.handlerPc, h.catchType)) = jmH M) : ∀ x ∈ c.exceptionTable.toList, covers x pc = false := by
  intro x hx
  have := List.all_eq_true.mp h _ (by rw [← he]; exact List.mem_map_of_mem hx)
  unfold covers
  simp only [Bool.not_eq_true', Bool.and_eq_false_imp, Nat.ble_eq, decide_eq_false_iff_not, decide_eq_true_eq] at this ⊢
  intro z
  have := this z
  rw [← Bool.not_eq_true, Nat.blt, Nat.ble_eq] at this
  first | omega | exact this | (intro q; exact this q)
theorem jw_athrow {t r : Nat} (hd : jmT M pc = some (.athrow, 1)) (hno : jnoh M pc = true) (hr : r ≠ 0) (hq : Q (.inr r) h) : JW D d M pc ls (vR t r :: st) h Q :=
  jw_end (r := .inr r) (fun _ hs => by
    rcases hs _ List.mem_cons_self with e | e
    · exact absurd e hr
    · exact ⟨Nat.pos_of_ne_zero hr, sbt_ne0 e⟩) hq (fun p l e R s m args below meth c H locs cells slots lsA hF g7 _ _ _ => by
    intro T hT X
    obtain ⟨a, rfl⟩ : ∃ a, r = a + 1 := ⟨r - 1, by omega⟩
    obtain ⟨x1, x2, x3, x4, x5⟩ := X.athrowLeaves hF.1 (g := F0 m pc lsA (.ref a :: st.map vv)) rfl rfl rfl (jnoh_out hno hF.2.2.2.2.2.2.2.2.2.2.1) rfl (by rw [hF.2.2.2.2.1]; exact hF.2.2.2.1.1 _ _ hd) (hlocks := hF.2.2.2.2.2.2.2.1)
    exact ⟨_, x1, .threw a, x2, x3, ⟨a, rfl, rfl⟩, x4, hT, locs, g7, x5⟩)
end JRt
