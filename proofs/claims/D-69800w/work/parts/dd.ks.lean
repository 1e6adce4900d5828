/-! frames by kinds, where hashes of strings may be kept; values are worked out: tables and engine stay -/
section
variable {D : JD} {h h' h'' : JH} {K K' : Nat → Bool} {q c t u r B e sc : Nat} {M : Nat → Prop} {ρ : Nat → Nat} {A : List Nod} {tb : Tab} {T S : List Tab} {pv : List Val}
/-- objects stay but those of the kinds K (and characters of such cells); strings read as before -/
def KS (K : Nat → Bool) (h h' : JH) : Prop :=
  (∀ q, q ≤ jsz h → jkd h q ≠ 0 → K (jkd h q) = false → jkd h q ≠ 12 → (jkd h q = 144 → ∃ c, c ≤ jsz h ∧ jkd h c ≠ 0 ∧ jkd h c ≠ 144 ∧ jkd h c ≠ 12 ∧ jfr h 67 c = q ∧ K (jkd h c) = false) → same h h' q) ∧ jsz h ≤ jsz h' ∧ (∀ q, jkd h q ≠ 0 → jkd h' q = jkd h q) ∧ (OW h → OW h') ∧ ∀ q w, StR h q w → StR h' q w
theorem KS.rf : KS K h h := ⟨fun _ _ _ _ _ _ => same.rf _ _, Nat.le_refl _, fun _ _ => rfl, id, fun _ _ k => k⟩
theorem KS.tr (a : KS K h h') (b : KS K h' h'') : KS K h h'' := by
  obtain ⟨a1, a2, a3, a4, a5⟩ := a
  obtain ⟨b1, b2, b3, b4, b5⟩ := b
  refine ⟨fun q q1 q2 q3 q5 q4 => ?_, by omega, fun q hq => (b3 q (by rw [a3 q hq]; exact hq)).trans (a3 q hq), fun o => b4 (a4 o), fun q w k => b5 q w (a5 q w k)⟩
  have s := a1 q q1 q2 q3 q5 q4
  refine s.tr (b1 q (by omega) (by rw [s.kd]; exact q2) (by rw [s.kd]; exact q3) (by rw [s.kd]; exact q5) fun e => ?_)
  rw [s.kd] at e
  obtain ⟨c, c1, c2, c3, c6, c4, c5⟩ := q4 e
  have sc := a1 c c1 c2 c5 c6 (fun z => absurd z c3)
  exact ⟨c, by omega, by rw [sc.kd]; exact c2, by rw [sc.kd]; exact c3, by rw [sc.kd]; exact c6, by rw [sc.fr]; exact c4, by rw [sc.kd]; exact c5⟩
theorem KS.mono (a : KS K h h') (hK : ∀ k, K k = true → K' k = true) : KS K' h h' := by
  have f : ∀ k, K' k = false → K k = false := fun k e => by
    cases z : K k with
    | false => rfl
    | true => rw [hK k z] at e; cases e
  refine ⟨fun q q1 q2 q3 q5 q4 => a.1 q q1 q2 (f _ q3) q5 fun e => ?_, a.2⟩
  obtain ⟨c, c1, c2, c3, c6, c4, c5⟩ := q4 e
  exact ⟨c, c1, c2, c3, c6, c4, f _ c5⟩
theorem KF.ks (a : KF K h h') (hI : JInv D h) (k1 : K 12 = false ∧ K 51 = false ∧ K 66 = false ∧ K 219 = false) : KS K h h' := by
  refine ⟨fun q q1 q2 q3 q5 q4 => a.1 q q1 q2 q3 fun e => ?_, a.2.1, a.2.2.1, a.2.2.2, fun q w k => a.str hI k k1⟩
  obtain ⟨c, c1, c2, c3, c6, c4, c5⟩ := q4 e
  exact ⟨c, c1, c2, c3, c4, c5⟩
theorem KS.obj (a : KS K h h') (hI : JInv D h) (q0 : jkd h q ≠ 0) (q1 : jkd h q ≠ 144 ∧ jkd h q ≠ 12) (q2 : K (jkd h q) = false) : same h h' q := a.1 q (hI.lt q0) q0 q2 q1.2 fun e => absurd e q1.1
theorem KS.cel0 (a : KS K h h') (hI : JInv D h) (hc : CelW D h c) (k1 : K (jkd h c) = false) (k2 : K 144 = false) : same h h' c ∧ (jfr h 67 c ≠ 0 → same h h' (jfr h 67 c)) := by
  have kc := hc.kd
  refine ⟨a.obj hI (by omega) (by omega) k1, fun h0 => ?_⟩
  have k4 := (hc.2.2.2.2.resolve_left h0).1
  exact a.1 _ hI.refl (by omega) (by rw [k4]; exact k2) (by omega) fun _ => ⟨c, (hc.lt hI).1, by omega, by omega, by omega, rfl, k1⟩
theorem KS.tbs (a : KS K h h') (hI : JInv D h) (k1 : K 5 = false ∧ K 140 = false ∧ K 224 = false ∧ K 96 = false ∧ K 144 = false) (uw : TabW D h u) : TbS h h' u := by
  have k140 := hI.k140 u uw.2.1.1
  refine ⟨a.obj hI (by rw [uw.1.2]; decide) (by rw [uw.1.2]; decide) (by rw [uw.1.2]; exact k1.1), a.obj hI (by rw [k140]; decide) (by rw [k140]; decide) (by rw [k140]; exact k1.2.1), fun k' hk' hr' => ?_⟩
  have ru := (uw.2.2 k' hk').resolve_left hr'
  refine ⟨a.obj hI (by rw [ru.2.1]; decide) (by rw [ru.2.1]; decide) (by rw [ru.2.1]; exact k1.2.2.1), fun j' hj' => ?_⟩
  have cu := ru.2.2.2 j' hj'
  exact a.cel0 hI cu.1 (by rw [cu.2]; exact k1.2.2.2.1) k1.2.2.2.2
theorem ColsR.ks {l : List Col} (k : ColsR D h r l) (a : KS K h h') (hI : JInv D h) (k1 : K 225 = false ∧ K 16 = false) : ColsR D h' r l := by
  obtain ⟨c1, c2, c3, c4, c5⟩ := k
  have s := a.obj (q := r) hI (by omega) (by omega) (by rw [c2]; exact k1.1)
  refine ⟨c1, by rw [s.kd]; exact c2, by rw [s.ln]; exact c3, c4, fun i c hc => ?_⟩
  rw [s.ar]
  have cr := c5 i c hc
  exact cr.of (a.obj hI (by rw [cr.2.1]; decide) (by rw [cr.2.1]; decide) (by rw [cr.2.1]; exact k1.2)) fun q w k => a.2.2.2.2 q w k
theorem TabR.ks (k : TabR D h u tb) (a : KS K h h') (hI : JInv D h) (hK : KTb K) : TabR D h' u tb := by
  have s := a.tbs hI hK.1 k.1
  obtain ⟨k1, k2, k3, k4, k5, k6⟩ := k
  obtain ⟨s1, s2, s3⟩ := s
  refine ⟨k1.of ⟨s1, s2, s3⟩, by rw [s1.fr]; exact a.2.2.2.2 _ _ k2, by rw [s1.fr]; exact k3.ks a hI hK.2.2.1, by rw [s1.fi]; exact k4, by rw [s1.fi]; exact k5, fun i r hr => ?_⟩
  obtain ⟨r1, r2⟩ := k6 i r hr
  have il : i < 100 := by
    have := (List.getElem?_eq_some_iff.mp hr).1
    have := k5.2
    omega
  obtain ⟨t1, t2⟩ := s3 i il r1
  refine ⟨by rw [s1.fr, s2.ar]; exact r1, fun c hc => ?_⟩
  have cl : c < 10 := by have := k3.2.2.2.1; omega
  unfold tce
  rw [s1.fr, s2.ar, t1.ar]
  exact (r2 c hc).of (t2 c cl).1 (t2 c cl).2
theorem BasW.ks (k : BasW D h B) (a : KS K h h') (hI : JInv D h) (hK : KTb K) : BasW D h' B ∧ same h h' B ∧ same h h' (jfr h 40 B) := by
  have a39 : jkd h (jfr h 40 B) = 139 := hI.ref (F := 40) (by decide +kernel) k.2.1.1
  have kB := k.1.2
  have s1 : same h h' B := a.obj hI (by omega) (by omega) (by rcases kB with e | e <;> rw [e]; exact hK.2.1.1; exact hK.2.1.2.1)
  have s2 : same h h' (jfr h 40 B) := a.obj hI (by omega) (by omega) (by rw [a39]; exact hK.2.1.2.2)
  exact ⟨k.of s1 s2 fun j hj => (k.2.2 j hj).of (a.tbs hI hK.1 (k.2.2 j hj)), s1, s2⟩
theorem BasR.ks (k : BasR D h B T) (a : KS K h h') (hI : JInv D h) (hK : KTb K) : BasR D h' B T := by
  obtain ⟨k1, k2, k3⟩ := k
  obtain ⟨b1, s1, s2⟩ := k1.ks a hI hK
  refine ⟨b1, by rw [s1.fi]; exact k2, fun j tb ht => ?_⟩
  have : tba h' B j = tba h B j := by unfold tba; rw [s1.fr, s2.ar]
  rw [this]
  exact (k3 j tb ht).ks a hI hK
theorem EngT.ks (k : EngT D h e T S) (a : KS K h h') (hI : JInv D h) (hK : KTb K) (k3 : K 3 = false) (ot : OT h') : EngT D h' e T S ∧ same h h' e := by
  obtain ⟨e1, ⟨e2, e3⟩, ⟨e4, e5⟩, e6, e7, e8⟩ := k
  have s : same h h' e := a.obj hI (by rw [e1.2]; decide) (by rw [e1.2]; decide) (by rw [e1.2]; exact k3)
  obtain ⟨_, s1, _⟩ := e3.1.ks a hI hK
  obtain ⟨_, s2, _⟩ := e5.1.ks a hI hK
  exact ⟨⟨⟨e1.1, by rw [s.kd]; exact e1.2⟩, ⟨by rw [s.fr]; exact e2, by rw [s.fr]; exact e3.ks a hI hK⟩, ⟨by rw [s.fr]; exact e4, by rw [s.fr]; exact e5.ks a hI hK⟩, by rw [s.fr, s.fr, s1.fr, s2.fr]; exact e6, ot, a.2.2.2.1 e8⟩, s⟩
/-- kinds that change while values are worked out -/
def evKd (k : Nat) : Bool := Nat.beq k 98 || (Nat.beq k 99 || Nat.beq k 142)
theorem ktb_ev : KTb evKd := ⟨⟨rfl, rfl, rfl, rfl, rfl⟩, ⟨rfl, rfl, rfl⟩, ⟨rfl, rfl⟩, ⟨rfl, rfl, rfl, rfl⟩⟩
theorem EvF.ks (a : EvF D sc M h h') (hI : JInv D h) (ow : OW h) (hW : ∀ c, M c → CelW D h c ∧ (jkd h c = 98 ∨ jkd h c = 99)) (h56 : jfr h 56 sc ≠ 0) : KS evKd h h' := by
  have k142 : jkd h (jfr h 56 sc) = 142 := hI.ref (F := 56) (by decide +kernel) h56
  refine ⟨fun q q1 q2 q3 q5 q4 => a.1 q q1 (fun z => ?_) (fun c hc z => ?_) (fun z => ?_) q5, a.2.2.2.1.1, a.2.2.2.2.2.1, a.2.2.1, a.2.2.2.2.2.2.2⟩
  · rcases (hW q z).2 with e | e <;> rw [e] at q3 <;> cases q3
  · obtain ⟨cw, ck⟩ := hW c hc
    rcases cw.2.2.2.2 with g | g
    · rw [g] at z
      have := (hI.1 q q2).1
      omega
    · rw [← z] at g
      obtain ⟨c', c1, c2, c3, c6, c4, c5⟩ := q4 g.1
      have e := ow.tx c' c (c4.trans z) (by rw [c4]; have := (hI.1 q q2).1; omega)
      rw [e] at c5
      rcases ck with y | y <;> rw [y] at c5 <;> cases c5
  · rw [z, k142] at q3; cases q3
theorem EvF.eks {lo hi : Nat} (a : EvF D sc (EM h A ρ lo hi) h h') (hI : JInv D h) (ow : OW h) (tr : TreeR D h A ρ) (h56 : jfr h 56 sc ≠ 0) : KS evKd h h' := a.ks hI ow (fun c hc => tr.emW hI hc) h56
theorem EnvP.ks (k : EnvP D h sc pv) (a : KS K h h') (hI : JInv D h) (k6 : K 6 = false) (k12 : K 102 = false ∧ K 144 = false) (hp : K 137 = false ∧ K 162 = false) (l56 : jln h' (jfr h 56 sc) = jln h (jfr h 56 sc)) : EnvP D h' sc pv := by
  obtain ⟨k1, ⟨k2, k3⟩, ⟨k7, k8, k9, k10⟩, k11⟩ := k
  have s : same h h' sc := a.obj hI (by rw [k1.2]; decide) (by rw [k1.2]; decide) (by rw [k1.2]; exact k6)
  have k50 : sbt (jkd h (jfr h 50 sc)) (ftg 50) = true := Or.resolve_left (hI.2.2.1 50 sc) k7
  have kk := ftg50 _ (sbt_lt k50) k50
  have s5 : same h h' (jfr h 50 sc) := a.obj hI kk.1 ⟨kk.2.2.2.1, kk.2.2.2.2.2⟩ (by rcases k11 with z | z <;> rw [z]; exact hp.1; exact hp.2)
  refine ⟨⟨k1.1, by rw [s.kd]; exact k1.2⟩, ⟨by rw [s.fr]; exact k2, by rw [s.fr, l56]; exact k3⟩, ⟨by rw [s.fr]; exact k7, by rw [s.fr, s5.ln]; exact k8, by rw [s.fr, s5.ln]; exact k9, fun j v hv => ?_⟩, by rw [s.fr, s5.kd]; exact k11⟩
  rw [s.fr, s5.ar]
  obtain ⟨c1, c2⟩ := k10 j v hv
  obtain ⟨t1, t2⟩ := a.cel0 hI c1.1 (by rw [c2]; exact k12.1) k12.2
  exact ⟨c1.of t1 t2, by rw [t1.kd]; exact c2⟩
theorem ev_50 : ∀ k, k < 226 → sbt k (ftg 50) = true → evKd k = false := by decide +kernel
end
