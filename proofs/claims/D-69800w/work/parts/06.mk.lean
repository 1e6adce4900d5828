/-! how methods and pools are given: trees over the pool's indices, and checks -/
def jon {A : Type} (b : A → Bool) : Option A → Bool
  | none => true
  | some x => b x
def jgd {A : Type} (N : Nat) (f : Nat → Option A) : Nat → Option A := fun k => cond (Nat.blt k N) (f k) none
theorem jgd_all {A : Type} {N : Nat} {f : Nat → Option A} {b : Nat → A → Bool} (h : ((List.range N).all fun k => jon (fun x => b k x) (f k)) = true) {k : Nat} {x : A} (hx : jgd N f k = some x) : b k x = true := by
  unfold jgd at hx
  cases hk : Nat.blt k N with
  | false => rw [hk] at hx; cases hx
  | true =>
    rw [hk] at hx
    have hx : f k = some x := hx
    have hl : k < N := Nat.ble_eq.mp hk
    have := List.all_eq_true.mp h k (List.mem_range.mpr hl)
    rw [hx] at this
    exact this
def jckF (own : String) (idx : Nat) (q : Nat × (Nat × Nat) × (Nat × Nat)) : Bool := Nat.ble q.1 329 && match (jtb q.2.1.1)[q.2.1.2]? with
  | some (.fieldLink o i r n d) => decide (o = own) && (Nat.beq i idx && (decide (n = fnm q.1) && (decide (d = fds q.1) && (decide (r = fow q.1) || jchk q.2.2 (.sameField r (fow q.1) n d)))))
  | some (.fieldLinkNest o i r n d _) => decide (o = own) && (Nat.beq i idx && (decide (n = fnm q.1) && (decide (d = fds q.1) && (decide (r = fow q.1) || jchk q.2.2 (.sameField r (fow q.1) n d)))))
  | _ => false
def jckQ (own : String) (idx : Nat) (q : MethodName × (Nat × Nat)) : Bool := match (jtb q.2.1)[q.2.2]? with
  | some (.methodLink o i y) => decide (o = own) && (Nat.beq i idx && decide (y = q.1))
  | some (.methodLinkNest o i y _) => decide (o = own) && (Nat.beq i idx && decide (y = q.1))
  | _ => false
def jckI (own : String) (idx : Nat) (q : Int32 × (Nat × Nat)) : Bool := cond (Nat.beq q.2.1 99) (decide (jsin[q.2.2]? = some (own, idx, q.1))) (jchk q.2 (.constant own idx q.1))
def jcpo (tF : Nat → Option (Nat × (Nat × Nat) × (Nat × Nat))) (tQ : Nat → Option (MethodName × (Nat × Nat))) (tK : Nat → Option (Nat × (Nat × Nat))) (tS : Nat → Option (Nat × Nat)) (tI : Nat → Option (Int32 × (Nat × Nat))) (tJ : Nat → Option (Int64 × (Nat × Nat))) : JCp :=
  (fun k => (tF k).map (·.1), fun k => (tQ k).map (·.1), fun k => (tK k).map (·.1), fun k => (tS k).map (·.1), fun k => (tI k).map (·.1), fun k => (tJ k).map (·.1))
def JCpk (own : String) (cp : JCp) : Prop :=
  (∀ idx F, cp.1 idx = some F → JFL own idx F) ∧ (∀ idx k, cp.2.2.1 idx = some k → Cond.classLink own idx (jcn k) ∈ lw_all) ∧ (∀ idx y, cp.2.1 idx = some y → JQL own idx y) ∧
  (∀ idx v, cp.2.2.2.2.1 idx = some v → Cond.constant own idx v ∈ lw_all ∨ (own, idx, v) ∈ jsin) ∧ (∀ idx v, cp.2.2.2.2.2 idx = some v → Cond.constantLong own idx v ∈ lw_all) ∧ (∀ idx j, cp.2.2.2.1 idx = some j → (own, idx, j) ∈ jcst)
theorem jckF_ok {own : String} {idx : Nat} {q : Nat × (Nat × Nat) × (Nat × Nat)} (h : jckF own idx q = true) : JFL own idx q.1 := by
  unfold jckF at h
  rw [Bool.and_eq_true, Nat.ble_eq] at h
  refine ⟨by omega, ?_⟩
  have h2 := h.2
  split at h2
  · rename_i o i r n d hw
    simp only [Bool.and_eq_true, Bool.or_eq_true, decide_eq_true_eq, Nat.beq_eq] at h2
    obtain ⟨rfl, rfl, rfl, rfl, h5⟩ := h2
    refine ⟨r, ?_, Or.inl (lw_g (jtb_mem hw) rfl)⟩
    rcases h5 with e | e
    · exact Or.inl e
    · exact Or.inr (lw_g (jchk_mem e) rfl)
  · rename_i o i r n d host hw
    simp only [Bool.and_eq_true, Bool.or_eq_true, decide_eq_true_eq, Nat.beq_eq] at h2
    obtain ⟨rfl, rfl, rfl, rfl, h5⟩ := h2
    refine ⟨r, ?_, Or.inr ⟨host, jtb_mem hw⟩⟩
    rcases h5 with e | e
    · exact Or.inl e
    · exact Or.inr (lw_g (jchk_mem e) rfl)
  · cases h2
theorem jckQ_ok {own : String} {idx : Nat} {q : MethodName × (Nat × Nat)} (h : jckQ own idx q = true) : JQL own idx q.1 := by
  unfold jckQ at h
  split at h
  · rename_i o i y hw
    simp only [Bool.and_eq_true, decide_eq_true_eq, Nat.beq_eq] at h
    obtain ⟨rfl, rfl, rfl⟩ := h
    exact Or.inl (lw_g (jtb_mem hw) rfl)
  · rename_i o i y host hw
    simp only [Bool.and_eq_true, decide_eq_true_eq, Nat.beq_eq] at h
    obtain ⟨rfl, rfl, rfl⟩ := h
    exact Or.inr ⟨host, jtb_mem hw⟩
  · cases h
theorem jckI_ok {own : String} {idx : Nat} {q : Int32 × (Nat × Nat)} (h : jckI own idx q = true) : Cond.constant own idx q.1 ∈ lw_all ∨ (own, idx, q.1) ∈ jsin := by
  unfold jckI at h
  cases hb : Nat.beq q.2.1 99 with
  | true => rw [hb] at h; exact Or.inr (List.mem_of_getElem? (of_decide_eq_true h))
  | false => rw [hb] at h; exact Or.inl (lw_g (jchk_mem h) rfl)
theorem jcpk_mk {own : String} {tF fF : Nat → Option (Nat × (Nat × Nat) × (Nat × Nat))} {tQ fQ : Nat → Option (MethodName × (Nat × Nat))} {tK fK : Nat → Option (Nat × (Nat × Nat))} {tS fS : Nat → Option (Nat × Nat)} {tI fI : Nat → Option (Int32 × (Nat × Nat))} {tJ fJ : Nat → Option (Int64 × (Nat × Nat))} {N : Nat × Nat × Nat × Nat × Nat × Nat}
    (ht : tF = jgd N.1 fF ∧ tQ = jgd N.2.1 fQ ∧ tK = jgd N.2.2.1 fK ∧ tS = jgd N.2.2.2.1 fS ∧ tI = jgd N.2.2.2.2.1 fI ∧ tJ = jgd N.2.2.2.2.2 fJ)
    (hc : (((List.range N.1).all fun k => jon (fun x => jckF own k x) (fF k)) && (((List.range N.2.1).all fun k => jon (fun x => jckQ own k x) (fQ k)) && (((List.range N.2.2.1).all fun k => jon (fun x => jchk x.2 (.classLink own k (jcn x.1))) (fK k)) &&
      (((List.range N.2.2.2.1).all fun k => jon (fun x => decide (jcst[x.2]? = some (own, k, x.1))) (fS k)) && (((List.range N.2.2.2.2.1).all fun k => jon (fun x => jckI own k x) (fI k)) && ((List.range N.2.2.2.2.2).all fun k => jon (fun x => jchk x.2 (.constantLong own k x.1)) (fJ k))))))) = true) : JCpk own (jcpo tF tQ tK tS tI tJ) := by
  obtain ⟨rfl, rfl, rfl, rfl, rfl, rfl⟩ := ht
  simp only [Bool.and_eq_true] at hc
  obtain ⟨c1, c2, c3, c4, c5, c6⟩ := hc
  refine ⟨fun idx F h => ?_, fun idx F h => ?_, fun idx F h => ?_, fun idx F h => ?_, fun idx F h => ?_, fun idx F h => ?_⟩ <;> obtain ⟨x, hx, rfl⟩ := Option.map_eq_some_iff.mp h
  · exact jckF_ok (jgd_all (b := fun k x => jckF own k x) c1 hx)
  · exact lw_g (jchk_mem (jgd_all (b := fun k x => jchk x.2 (.classLink own k (jcn x.1))) c3 hx)) rfl
  · exact jckQ_ok (jgd_all (b := fun k x => jckQ own k x) c2 hx)
  · exact jckI_ok (jgd_all (b := fun k x => jckI own k x) c5 hx)
  · exact lw_g (jchk_mem (jgd_all (b := fun k x => jchk x.2 (.constantLong own k x.1)) c6 hx)) rfl
  · exact List.mem_of_getElem? (of_decide_eq_true (jgd_all (b := fun k x => decide (jcst[x.2]? = some (own, k, x.1))) c4 hx))
theorem jmok_mk {M : JM} {N : Nat} {f : Nat → Option (Instr × Nat)} (hT : jmT M = jgd N f) (hdec : ((List.range N).all fun k => jon (fun x => decide (decode (jmC M) k = .ok x)) (f k)) = true)
    (hw : (jmH M = [] ∧ Cond.code (jmY M) (jmC M) (jmL M) (jmR M) ∈ lw_all) ∨ Cond.codeWith (jmY M) (jmC M) (jmL M) (jmR M) (jmH M) ∈ lw_all) (hp : plainFor (jmY M) = true) (hne : (jmY M).cls ≠ "java/lang/invoke/MethodHandle" ∧ (jmY M).cls ≠ "java/lang/invoke/VarHandle")
    (hini : Cond.initialized (jmY M).cls ∈ lw_all) (hc : JCpk (jmY M).cls M.2.2.2.2.2.2.2.2) : JMok M := by
  obtain ⟨c1, c2, c3, c4, c5, c6⟩ := hc
  exact ⟨fun pc x hx => of_decide_eq_true (jgd_all (b := fun k x => decide (decode (jmC M) k = .ok x)) hdec (by rw [← hT]; exact hx)), hw, hp, hne, hini, c1, c2, c3, c4, c5, c6⟩
