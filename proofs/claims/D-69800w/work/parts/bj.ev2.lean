/-! the component: what stays while values are worked out -/
section
variable {D : JD} {h h' h'' hm h0 : JH} {ρ : Nat → Nat} {A : List Nod} {E : TEnv} {d sc r x i n f c q lo hi : Nat} {M : Nat → Prop} {pv : List Val} {R : TRow}
theorem EvF.keep (a : EvF D sc M h h') (hI : JInv D h) (ow : OW h) (hW : ∀ c, M c → CelW D h c) (h56 : jfr h 56 sc ≠ 0) (hc : CelW D h c) (hn : ¬ M c) : same h h' c ∧ (jfr h 67 c ≠ 0 → same h h' (jfr h 67 c)) := by
  have hl := hc.lt hI
  have k142 : jkd h (jfr h 56 sc) = 142 := hI.ref (F := 56) (by decide +kernel) h56
  have kc := hc.kd
  refine ⟨a.1 c hl.1 hn (fun o ho z => ?_) (fun z => by rw [z] at kc; omega) (by omega), fun h0 => ?_⟩
  · rcases (hW o ho).2.2.2.2 with w | w
    · rw [w] at z; exact hc.1 z
    · rw [← z] at w; omega
  · have t4 : jkd h (jfr h 67 c) = 144 := by
      rcases hc.2.2.2.2 with w | w
      · exact absurd w h0
      · exact w.1
    refine a.1 _ hl.2 (fun z => ?_) (fun o ho z => ?_) (fun z => by rw [z] at t4; omega) (by omega)
    · have := (hW _ z).kd; omega
    · have := ow.tx _ _ z h0
      exact hn (by rw [this]; exact ho)
/-- objects that are no cells, no characters, and not the rows of the scope -/
theorem EvF.obj (a : EvF D sc M h h') (hI : JInv D h) (hW : ∀ c, M c → CelW D h c) (h56 : jfr h 56 sc ≠ 0) (h0 : jkd h q ≠ 0) (k1 : jkd h q ≠ 8 ∧ (jkd h q < 96 ∨ 102 < jkd h q) ∧ jkd h q ≠ 144 ∧ jkd h q ≠ 142 ∧ jkd h q ≠ 12) : same h h' q := by
  have k142 : jkd h (jfr h 56 sc) = 142 := hI.ref (F := 56) (by decide +kernel) h56
  refine a.1 q (hI.lt h0) (fun z => ?_) (fun o ho z => ?_) (fun z => k1.2.2.2.1 (by rw [z]; exact k142)) k1.2.2.2.2
  · have := (hW _ z).kd; omega
  · rcases (hW o ho).2.2.2.2 with w | w
    · rw [w] at z
      rw [z] at h0
      have := (hI.1 0 h0).1
      omega
    · rw [← z] at w
      exact k1.2.2.1 w.1
theorem StR.ev {w : Str} (k : StR h q w) (a : EvF D sc M h h') (hI : JInv D h) (hW : ∀ c, M c → CelW D h c) (h56 : jfr h 56 sc ≠ 0) : StR h' q w := a.2.2.2.2.2.2.2 q w k
theorem NodR.ev {nd : Nod} (k : NodR D h ρ nd r) (a : EvF D sc M h h') (hI : JInv D h) (ow : OW h) (hW : ∀ c, M c → CelW D h c) (h56 : jfr h 56 sc ≠ 0) (hl : ndO nd = 0 → ¬ M (jfr h 108 r)) : NodR D h' ρ nd r := by
  obtain ⟨k1, k2, k3, f0, f1, f2, f3, f4, f5, f6, f7, f8, f9⟩ := k
  have nk := nkd_ex nd
  have s1 : same h h' r := a.obj hI hW h56 (by omega) (by omega)
  have cw : ∀ c, CelW D h c → CelW D h' c := fun c hc => by
    by_cases z : M c
    · exact (a.2.1 c z).2 hc
    · obtain ⟨s1, s2⟩ := a.keep hI ow hW h56 hc z
      exact hc.of s1 s2
  have st : ∀ q w, StR h q w → StR h' q w := fun q w z => z.ev a hI hW h56
  refine ⟨k1, by rw [s1.kd]; exact k2, by rw [s1.fr]; exact cw _ k3, fun e => ?_, fun e => by rw [s1.fi]; exact f1 e, fun e => ?_, fun e => ⟨fun z => ?_, fun z => ?_⟩, fun e => ?_, fun e => by rw [s1.fi]; exact f5 e, fun e => by rw [s1.fi]; exact f6 e, fun e => by rw [s1.fr, s1.fr, s1.fr]; exact f7 e, fun e => by rw [s1.fr, s1.fi, s1.fr]; exact f8 e, fun e => by rw [s1.fr, s1.fi]; exact f9 e⟩
  · rw [s1.fr, s1.fr]
    obtain ⟨t1, t2⟩ := a.keep hI ow hW h56 k3 (hl e)
    exact ⟨(f0 e).1, (f0 e).2.of t1 t2⟩
  · rw [s1.fr, s1.fr]
    refine ⟨st _ _ (f2 e).1, ?_⟩
    have := (f2 e).2
    revert this
    cases ndF nd with
    | none => exact fun z => z
    | some w => exact fun z => st _ _ z
  · obtain ⟨a1, b1, c1⟩ := (f3 e).1 z
    rw [s1.fr, s1.fr, s1.fi]
    exact ⟨st _ _ a1, b1, cw _ c1⟩
  · rw [s1.fr]; exact st _ _ ((f3 e).2 z)
  · obtain ⟨p1, p2, p3, p4, p5, p6⟩ := f4 e
    have sp : same h h' (jfr h 111 r) := a.obj hI hW h56 (by omega) (by omega)
    unfold PtsR
    rw [s1.fr, s1.fi, sp.kd, sp.ln]
    exact ⟨p1, p2, p3, p4, p5, fun i x hx => by rw [sp.ar]; exact p6 i x hx⟩
/-- the cells of different nodes are different -/
theorem EM.out (t : TreeR D h A ρ) (ow : OW h) (hI : JInv D h) (ri : RI ρ A.length) (il : i < A.length) (ho : ndO (nat_ A i) = 0 ∨ hi ≤ i ∨ i < lo) : ¬ EM h A ρ lo hi (jfr h 108 (ρ i)) := by
  rintro ⟨j, j1, j2, j3, j4, j5⟩
  have ni := (t i il).2.2.1
  rcases j5 with e | ⟨e1, e2⟩
  · have := ow 108 _ _ (Or.inr (Or.inl rfl)) e ni.1
    have := ri i j il j3 this
    subst this
    omega
  · have k98 : jkd h (jfr h 108 (ρ i)) = 98 := hI.ref (F := 108) (by decide +kernel) ni.1
    have o3 : ndO (nat_ A j) = 3 := by
      unfold nkd at e1
      split at e1
      all_goals first | assumption | omega
    have c5 := (((t j j3).2.2.2.2.2.2.1 o3).1 e1).2.2
    have k99 : jkd h (jfr h 115 (ρ j)) = 99 := hI.ref (F := 115) (by decide +kernel) c5.1
    rw [e2] at k98
    omega
theorem TreeR.ev (t : TreeR D h A ρ) (ow : OW h) (ri : RI ρ A.length) (hI : JInv D h) (a : EvF D sc (EM h A ρ lo hi) h h') (h56 : jfr h 56 sc ≠ 0) : TreeR D h' A ρ := fun i il =>
  (t i il).ev a hI ow (fun c hc => (t.emW hI hc).1) h56 fun z => EM.out t ow hI ri il (Or.inl z)
/-- the row of a source -/
def RwE (D : JD) (h : JH) (ra : Nat) (o : Option (List Val)) (w : Nat) : Prop := match o with
  | none => ra = 0
  | some row => ra ≠ 0 ∧ jkd h ra = 224 ∧ w ≤ jln h ra ∧ jln h ra ≤ 10 ∧ ∀ c, c < w → Cel D h (jar h ra c) (row.getD c vNull) ∧ jkd h (jar h ra c) = 96
/-- the scope while values are worked out -/
def EnvR (D : JD) (h : JH) (sc : Nat) (E : TEnv) (R : TRow) (pv : List Val) : Prop :=
  (sc ≠ 0 ∧ jkd h sc = 6) ∧ (jfr h 56 sc ≠ 0 ∧ jln h (jfr h 56 sc) = 3 ∧ E.1.length ≤ 3 ∧ ∀ k t, E.1[k]? = some t → RwE D h (jar h (jfr h 56 sc) k) ((R[k]?).join) t.2.2.1.length) ∧
  (jfr h 50 sc ≠ 0 ∧ pv.length ≤ jln h (jfr h 50 sc) ∧ jln h (jfr h 50 sc) ≤ 8 ∧ ∀ (k : Nat) v, pv[k]? = some v → Cel D h (jar h (jfr h 50 sc) k) v ∧ jkd h (jar h (jfr h 50 sc) k) = 102)
theorem sbt76 : ∀ k, k < 226 → sbt k 76 = true → k ≠ 0 ∧ k ≠ 8 ∧ (k < 96 ∨ 102 < k) ∧ k ≠ 144 ∧ k ≠ 142 ∧ k ≠ 12 := by decide +kernel
theorem ftg50 : ∀ k, k < 226 → sbt k (ftg 50) = true → k ≠ 0 ∧ k ≠ 8 ∧ (k < 96 ∨ 102 < k) ∧ k ≠ 144 ∧ k ≠ 142 ∧ k ≠ 12 := by decide +kernel
theorem RwE.ev {ra w : Nat} {o : Option (List Val)} (k : RwE D h ra o w) (a : EvF D sc M h h') (hI : JInv D h) (ow : OW h) (hW : ∀ c, M c → CelW D h c ∧ (jkd h c = 98 ∨ jkd h c = 99)) (h56 : jfr h 56 sc ≠ 0) : RwE D h' ra o w := by
  cases o with
  | none => exact k
  | some row =>
    obtain ⟨k1, k2, k3, k4, k5⟩ := k
    have kk := sbt76 (jkd h ra) (by rw [k2]; decide) (by rw [k2]; rfl)
    have s1 : same h h' ra := a.obj hI (fun c hc => (hW c hc).1) h56 kk.1 kk.2
    refine ⟨k1, by rw [s1.kd]; exact k2, by rw [s1.ln]; exact k3, by rw [s1.ln]; exact k4, fun c hc => ?_⟩
    rw [s1.ar]
    obtain ⟨c1, c2⟩ := k5 c hc
    obtain ⟨t1, t2⟩ := a.keep hI ow (fun c hc => (hW c hc).1) h56 c1.1 (fun z => by have := (hW _ z).2; omega)
    exact ⟨c1.of t1 t2, by rw [t1.kd]; exact c2⟩
theorem EnvR.ev (k : EnvR D h sc E R pv) (a : EvF D sc M h h') (hI : JInv D h) (ow : OW h) (hW : ∀ c, M c → CelW D h c ∧ (jkd h c = 98 ∨ jkd h c = 99)) (hr : ∀ j, jar h' (jfr h 56 sc) j = jar h (jfr h 56 sc) j) : EnvR D h' sc E R pv := by
  obtain ⟨⟨k1, k2⟩, ⟨k3, k4, k5, k6⟩, ⟨k7, k8, k9, k10⟩⟩ := k
  have hW1 : ∀ c, M c → CelW D h c := fun c hc => (hW c hc).1
  have s0 : same h h' sc := a.obj hI hW1 k3 (by omega) (by omega)
  have k50 : sbt (jkd h (jfr h 50 sc)) (ftg 50) = true := Or.resolve_left (hI.2.2.1 50 sc) k7
  have kk := ftg50 _ (sbt_lt k50) k50
  have s5 : same h h' (jfr h 50 sc) := a.obj hI hW1 k3 kk.1 kk.2
  refine ⟨⟨k1, by rw [s0.kd]; exact k2⟩, ⟨by rw [s0.fr]; exact k3, by rw [s0.fr, a.2.2.2.2.2.2.1]; exact k4, k5, fun j t ht => ?_⟩, ⟨by rw [s0.fr]; exact k7, by rw [s0.fr, s5.ln]; exact k8, by rw [s0.fr, s5.ln]; exact k9, fun j v hv => ?_⟩⟩
  · rw [s0.fr, hr]
    exact (k6 j t ht).ev a hI ow hW k3
  · rw [s0.fr, s5.ar]
    obtain ⟨c1, c2⟩ := k10 j v hv
    obtain ⟨t1, t2⟩ := a.keep hI ow hW1 k3 c1.1 (fun z => by have := (hW _ z).2; omega)
    exact ⟨c1.of t1 t2, by rw [t1.kd]; exact c2⟩
theorem PlT.ev (t : TreeR D h A ρ) (hI : JInv D h) (a : EvF D sc M h h') (hW : ∀ c, M c → CelW D h c) (h56 : jfr h 56 sc ≠ 0) (hA : NOK A) : ∀ f i, i < A.length → PlT A E h ρ f i → PlT A E h' ρ f i
  | 0, _, _, _ => trivial
  | f + 1, i, il, k => by
    have nk := nkd_ex (nat_ A i)
    have kd := (t i il).2.1
    have s1 : same h h' (ρ i) := a.obj hI hW h56 (by omega) (by omega)
    refine ⟨fun e => ?_, fun p hp => PlT.ev t hI a hW h56 hA f p (by have := (Til.lt (hA i il).2.1).2 p hp; omega) (k.2 p hp)⟩
    obtain ⟨q, q1, q2, q3⟩ := k.1 e
    exact ⟨q, q1, by rw [s1.fi]; exact q2, by rw [s1.fi]; exact q3⟩
end
