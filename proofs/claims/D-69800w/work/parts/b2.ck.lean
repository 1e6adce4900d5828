/-! the component: what a tree is checked against -/
def TyOk (t : Nat) : Prop := t = 0 ∨ t = 16 ∨ t = 20 ∨ t = 25
theorem tyc_inj {D : JD} {h : JH} (hI : JInv D h) {a b : Nat} (ha : TyOk a) (hb : TyOk b) (e : tyc D a = tyc D b) : a = b := by
  have inj := fun {i j : Nat} (hi : i < 373 ∧ jenm i = true) (hj : j < 373 ∧ jenm j = true) (e : jcs D i = jcs D j) => kc_ne hI hi hj e
  rcases ha with rfl | rfl | rfl | rfl <;> rcases hb with rfl | rfl | rfl | rfl
  all_goals first | rfl | exact absurd (inj ⟨by decide, by decide⟩ ⟨by decide, by decide⟩ e) (by decide)
section
variable {D : JD} {h h' h'' hm : JH} {ρ : Nat → Nat} {A : List Nod} {E : TEnv} {d sc r x i n : Nat} {M : Nat → Prop}
def TabC (D : JD) (h : JH) (tb : Nat) (cs : List Col) : Prop :=
  tb ≠ 0 ∧ sbt (jkd h tb) 5 = true ∧ jfr h 43 tb ≠ 0 ∧ jfi h 44 tb = nI cs.length ∧ cs.length ≤ jln h (jfr h 43 tb) ∧ jln h (jfr h 43 tb) ≤ 10 ∧ ∀ i v, cs[i]? = some v → ColR D h (jar h (jfr h 43 tb) i) v ∧ TyOk v.2.1
def SrcC (D : JD) (h : JH) (x : Nat) (q : Str × Tab) : Prop := x ≠ 0 ∧ jkd h x = 31 ∧ StR h (jfr h 136 x) q.1 ∧ TabC D h (jfr h 138 x) q.2.2.1
/-- the scope sc stands for E -/
def ScC (D : JD) (h : JH) (sc : Nat) (E : TEnv) : Prop :=
  (sc ≠ 0 ∧ jkd h sc = 6) ∧ (jfr h 47 sc ≠ 0 ∧ jln h (jfr h 47 sc) = 3 ∧ jfi h 48 sc = nI E.1.length ∧ E.1.length ≤ 3 ∧ ∀ k q, E.1[k]? = some q → SrcC D h (jar h (jfr h 47 sc) k) q) ∧
  (jfr h 49 sc ≠ 0 ∧ jln h (jfr h 49 sc) = E.2.1.length ∧ E.2.1.length ≤ 8 ∧ ∀ k t, E.2.1[k]? = some t → jar h (jfr h 49 sc) k = tyc D t ∧ TyOk t) ∧ jfi h 51 sc = (if E.2.2 = true then 1 else 0)
/-- only types and places of the nodes in M, and 'within' of sc, have changed -/
def CkF (sc : Nat) (M : Nat → Prop) (h h' : JH) : Prop :=
  (∀ q, jkd h' q = jkd h q ∧ jln h' q = jln h q) ∧ (jsz h' = jsz h ∧ jus h' = jus h) ∧ (∀ q i, jar h' q i = jar h q i ∧ jai h' q i = jai h q i ∧ jal h' q i = jal h q i) ∧ (∀ F q, jfl h' F q = jfl h F q) ∧ (∀ F q, (F = 109 → ¬ M q) → jfr h' F q = jfr h F q) ∧ (∀ F q, (F = 52 → q ≠ sc) → (F = 119 ∨ F = 120 → ¬ M q) → jfi h' F q = jfi h F q)
theorem CkF.rf : CkF sc M h h := ⟨fun _ => ⟨rfl, rfl⟩, ⟨rfl, rfl⟩, fun _ _ => ⟨rfl, rfl, rfl⟩, fun _ _ => rfl, fun _ _ _ => rfl, fun _ _ _ _ => rfl⟩
theorem CkF.tr (a : CkF sc M h h') (b : CkF sc M h' h'') : CkF sc M h h'' :=
  ⟨fun q => ⟨(b.1 q).1.trans (a.1 q).1, (b.1 q).2.trans (a.1 q).2⟩, ⟨b.2.1.1.trans a.2.1.1, b.2.1.2.trans a.2.1.2⟩, fun q i => ⟨(b.2.2.1 q i).1.trans (a.2.2.1 q i).1, (b.2.2.1 q i).2.1.trans (a.2.2.1 q i).2.1, (b.2.2.1 q i).2.2.trans (a.2.2.1 q i).2.2⟩, fun F q => (b.2.2.2.1 F q).trans (a.2.2.2.1 F q), fun F q z => (b.2.2.2.2.1 F q z).trans (a.2.2.2.2.1 F q z), fun F q z y => (b.2.2.2.2.2 F q z y).trans (a.2.2.2.2.2 F q z y)⟩
theorem CkF.mono {M' : Nat → Prop} (a : CkF sc M h h') (hM : ∀ q, M q → M' q) : CkF sc M' h h' :=
  ⟨a.1, a.2.1, a.2.2.1, a.2.2.2.1, fun F q z => a.2.2.2.2.1 F q fun e y => z e (hM q y), fun F q z y => a.2.2.2.2.2 F q z fun e w => y e (hM q w)⟩
theorem CkF.ty {v : Nat} (hr : M r) : CkF sc M h (wfr h 109 r v) :=
  ⟨fun _ => ⟨rfl, rfl⟩, ⟨rfl, rfl⟩, fun _ _ => ⟨rfl, rfl, rfl⟩, fun _ _ => rfl, fun F q z => by rw [jfr_wfr, if_neg fun y => z y.1 (by rw [y.2]; exact hr)], fun _ _ _ _ => rfl⟩
theorem CkF.pl {F : Nat} {v : Int32} (hF : F = 119 ∨ F = 120) (hr : M r) : CkF sc M h (wfi h F r v) :=
  ⟨fun _ => ⟨rfl, rfl⟩, ⟨rfl, rfl⟩, fun _ _ => ⟨rfl, rfl, rfl⟩, fun _ _ => rfl, fun _ _ _ => rfl, fun G q z y => by rw [jfi_wfi, if_neg fun w => y (by rw [w.1]; exact hF) (by rw [w.2]; exact hr)]⟩
theorem CkF.wi {v : Int32} : CkF sc M h (wfi h 52 sc v) :=
  ⟨fun _ => ⟨rfl, rfl⟩, ⟨rfl, rfl⟩, fun _ _ => ⟨rfl, rfl, rfl⟩, fun _ _ => rfl, fun _ _ _ => rfl, fun G q z y => by rw [jfi_wfi, if_neg fun w => z w.1 w.2]⟩
theorem CkF.smq {q : Nat} (c : CkF sc M h h') (hq : q ≠ sc) (hM : ¬ M q) : same h h' q :=
  ⟨(c.1 q).1, (c.1 q).2, fun F => ⟨c.2.2.2.2.2 F q (fun _ => hq) (fun _ => hM), c.2.2.2.1 F q, c.2.2.2.2.1 F q fun _ => hM⟩, fun i => ⟨(c.2.2.1 q i).2.1, (c.2.2.1 q i).2.2, (c.2.2.1 q i).1⟩⟩
/-- M holds nodes alone -/
def MNd (h : JH) (M : Nat → Prop) : Prop := ∀ q, M q → 20 ≤ jkd h q ∧ jkd h q ≤ 29
theorem CkF.obj {q : Nat} (c : CkF sc M h h') (hM : MNd h M) (hs : jkd h sc = 6) (hk : jkd h q ≠ 6) (hk2 : jkd h q < 20 ∨ 29 < jkd h q) : same h h' q := CkF.smq c (fun e => hk (by rw [e]; exact hs)) fun z => by have := hM q z; omega
theorem StR.ck {q : Nat} {w : Str} (k : StR h q w) (c : CkF sc M h h') (hM : MNd h M) (hs : jkd h sc = 6) : StR h' q w := by
  have z1 := k.2.1
  have z2 := k.2.2.2.2.1
  exact k.of (c.obj hM hs (by omega) (by omega)) (c.obj hM hs (by omega) (by omega))
theorem ColR.ck {q : Nat} {v : Col} (k : ColR D h q v) (c : CkF sc M h h') (hM : MNd h M) (hs : jkd h sc = 6) : ColR D h' q v :=
  k.of (c.obj hM hs (by rw [k.2.1]; decide) (by rw [k.2.1]; decide)) fun _ _ z => z.ck c hM hs
theorem sbt5 : ∀ k, k < 226 → sbt k 5 = true → k = 5 ∨ k = 118 ∨ k = 119 := by decide +kernel
theorem TabC.kd {tb : Nat} {cs : List Col} (k : TabC D h tb cs) : jkd h tb = 5 ∨ jkd h tb = 118 ∨ jkd h tb = 119 := sbt5 _ (sbt_lt k.2.1) k.2.1
theorem TabC.ck {tb : Nat} {cs : List Col} (k : TabC D h tb cs) (c : CkF sc M h h') (hM : MNd h M) (hs : jkd h sc = 6) : TabC D h' tb cs := by
  have kd := k.kd
  have s0 : same h h' tb := c.obj hM hs (by omega) (by omega)
  obtain ⟨k1, k2, k3, k4, k5, k6, k7⟩ := k
  refine ⟨k1, by rw [s0.kd]; exact k2, by rw [s0.fr]; exact k3, by rw [s0.fi]; exact k4, by rw [s0.fr, (c.1 _).2]; exact k5, by rw [s0.fr, (c.1 _).2]; exact k6, fun i v hv => ?_⟩
  rw [s0.fr, (c.2.2.1 _ _).1]
  exact ⟨(k7 i v hv).1.ck c hM hs, (k7 i v hv).2⟩
theorem SrcC.ck {q : Str × Tab} (k : SrcC D h x q) (c : CkF sc M h h') (hM : MNd h M) (hs : jkd h sc = 6) : SrcC D h' x q := by
  have s0 : same h h' x := c.obj hM hs (by rw [k.2.1]; decide) (by rw [k.2.1]; decide)
  obtain ⟨k1, k2, k3, k4⟩ := k
  exact ⟨k1, by rw [s0.kd]; exact k2, by rw [s0.fr]; exact k3.ck c hM hs, by rw [s0.fr]; exact k4.ck c hM hs⟩
theorem ScC.ck (k : ScC D h sc E) (c : CkF sc M h h') (hM : MNd h M) : ScC D h' sc E := by
  obtain ⟨⟨k1, k2⟩, ⟨k3, k4, k5, k6, k7⟩, ⟨k8, k9, k10, k11⟩, k12⟩ := k
  have fr : ∀ F, F ≠ 109 → jfr h' F sc = jfr h F sc := fun F hF => c.2.2.2.2.1 F sc fun z => absurd z hF
  have fi : ∀ F, F ≠ 52 → F ≠ 119 → F ≠ 120 → jfi h' F sc = jfi h F sc := fun F h1 h2 h3 => c.2.2.2.2.2 F sc (fun z => absurd z h1) fun z => by omega
  refine ⟨⟨k1, by rw [(c.1 _).1]; exact k2⟩, ⟨by rw [fr 47 (by decide)]; exact k3, by rw [fr 47 (by decide), (c.1 _).2]; exact k4, by rw [fi 48 (by decide) (by decide) (by decide)]; exact k5, k6, fun k q hq => ?_⟩, ⟨by rw [fr 49 (by decide)]; exact k8, by rw [fr 49 (by decide), (c.1 _).2]; exact k9, k10, fun k t ht => ?_⟩, by rw [fi 51 (by decide) (by decide) (by decide)]; exact k12⟩
  · rw [fr 47 (by decide), (c.2.2.1 _ _).1]; exact (k7 k q hq).ck c hM k2
  · rw [fr 49 (by decide), (c.2.2.1 _ _).1]; exact k11 k t ht
theorem CelW.ck {q : Nat} (k : CelW D h q) (hk : jkd h q = 98 ∨ jkd h q = 99) (c : CkF sc M h h') (hM : MNd h M) (hs : jkd h sc = 6) : CelW D h' q :=
  k.of (c.obj hM hs (by omega) (by omega)) fun z => by
    rcases k.2.2.2.2 with y | y
    · exact absurd y z
    · exact c.obj hM hs (by omega) (by omega)
theorem Cel.ck {q : Nat} {v : Val} (k : Cel D h q v) (hk : jkd h q = 98 ∨ jkd h q = 99) (c : CkF sc M h h') (hM : MNd h M) (hs : jkd h sc = 6) : Cel D h' q v :=
  k.of (c.obj hM hs (by omega) (by omega)) fun z => by
    rcases k.1.2.2.2.2 with y | y
    · exact absurd y z
    · exact c.obj hM hs (by omega) (by omega)
theorem NodR.ck {nd : Nod} (k : NodR D h ρ nd r) (hI : JInv D h) (c : CkF sc M h h') (hM : MNd h M) (hs : jkd h sc = 6) (h9 : ndO nd = 0 ∨ ndO nd = 8 → ¬ M r) : NodR D h' ρ nd r := by
  obtain ⟨k1, k2, k3, f0, f1, f2, f3, f4, f5, f6, f7, f8, f9⟩ := k
  have nk := nkd_ex nd
  have fr : ∀ F, F ≠ 109 → jfr h' F r = jfr h F r := fun F hF => c.2.2.2.2.1 F r fun z => absurd z hF
  have fi : ∀ F, F ≠ 52 → F ≠ 119 → F ≠ 120 → jfi h' F r = jfi h F r := fun F h1 h2 h3 => c.2.2.2.2.2 F r (fun z => absurd z h1) fun z => by omega
  have c98 : jkd h (jfr h 108 r) = 98 := hI.ref (F := 108) (by decide +kernel) k3.1
  have st : ∀ q w, StR h q w → StR h' q w := fun q w z => z.ck c hM hs
  refine ⟨k1, by rw [(c.1 r).1]; exact k2, by rw [fr 108 (by decide)]; exact k3.ck (Or.inl c98) c hM hs, fun e => ?_, fun e => by rw [fi 110 (by decide) (by decide) (by decide)]; exact f1 e, fun e => ?_, fun e => ⟨fun z => ?_, fun z => ?_⟩, fun e => ?_, fun e => by rw [fi 128 (by decide) (by decide) (by decide)]; exact f5 e, fun e => by rw [fi 128 (by decide) (by decide) (by decide)]; exact f6 e, fun e => by rw [fr 123 (by decide), fr 124 (by decide), fr 125 (by decide)]; exact f7 e, fun e => ?_, fun e => by rw [fi 121 (by decide) (by decide) (by decide), fr 122 (by decide)]; exact f9 e⟩
  · rw [c.2.2.2.2.1 109 r fun _ => h9 (Or.inl e), fr 108 (by decide)]
    exact ⟨(f0 e).1, (f0 e).2.ck (Or.inl c98) c hM hs⟩
  · rw [fr 118 (by decide), fr 117 (by decide)]
    refine ⟨st _ _ (f2 e).1, ?_⟩
    have := (f2 e).2
    revert this
    cases ndF nd with
    | none => exact fun z => z
    | some w => exact fun z => st _ _ z
  · obtain ⟨a, b, e5⟩ := (f3 e).1 z
    rw [fr 113 (by decide), fi 114 (by decide) (by decide) (by decide), fr 115 (by decide)]
    exact ⟨st _ _ a, b, e5.ck (Or.inr (hI.ref (F := 115) (by decide +kernel) e5.1)) c hM hs⟩
  · rw [fr 116 (by decide)]; exact st _ _ ((f3 e).2 z)
  · obtain ⟨p1, p2, p3, p4, p5, p6⟩ := f4 e
    unfold PtsR
    rw [fr 111 (by decide), fi 112 (by decide) (by decide) (by decide), (c.1 _).1, (c.1 _).2]
    exact ⟨p1, p2, p3, p4, p5, fun i x hx => by rw [(c.2.2.1 _ _).1]; exact p6 i x hx⟩
  · rw [fr 126 (by decide), fi 127 (by decide) (by decide) (by decide), c.2.2.2.2.1 109 r fun _ => h9 (Or.inr e)]; exact f8 e
/-- the nodes from lo up to hi, but for literals and IS NULL -/
def NM (A : List Nod) (ρ : Nat → Nat) (lo hi : Nat) (q : Nat) : Prop := ∃ k, lo ≤ k ∧ k < hi ∧ k < A.length ∧ q = ρ k ∧ ndO (nat_ A k) ≠ 0 ∧ ndO (nat_ A k) ≠ 8
theorem NM.mono {a b a' b' q : Nat} (k : NM A ρ a b q) (h1 : a' ≤ a) (h2 : b ≤ b') : NM A ρ a' b' q := by
  obtain ⟨j, k1, k2, k3⟩ := k
  exact ⟨j, by omega, by omega, k3⟩
theorem TreeR.nd {lo hi : Nat} (t : TreeR D h A ρ) : MNd h (NM A ρ lo hi) := fun q ⟨k, _, _, k3, e, _⟩ => by
  have nk := nkd_ex (nat_ A k)
  rw [e, (t k k3).2.1]; omega
theorem TreeR.ck {lo hi : Nat} (t : TreeR D h A ρ) (ri : RI ρ A.length) (hI : JInv D h) (c : CkF sc (NM A ρ lo hi) h h') (hs : jkd h sc = 6) : TreeR D h' A ρ := fun i hi' =>
  (t i hi').ck hI c t.nd hs fun z ⟨k, _, _, k3, e, k5, k6⟩ => by
    have := ri i k hi' k3 e
    rw [this] at z; omega
/-! types -/
theorem k_fits {a b : Nat} (ha : TyOk a) (hb : TyOk b) (hd : 1 ≤ d) : cX15_fits D d (tyc D a) (tyc D b) h (pI D h (fun v h' => v = (if (a == 0 || (b == 0 || a == b)) = true then 1 else 0) ∧ h' = h) no) := by
  obtain ⟨e, rfl, he⟩ := dsucc hd
  have n0 : TyOk 0 := Or.inl rfl
  refine JW.inv fun hI => t_X15_fits ⟨fun z => ?_, fun z => ⟨fun y => ?_, fun y => ⟨fun w => ?_, fun w => ?_⟩⟩⟩
  · have := tyc_inj hI ha hb z
    refine ⟨jbo1, endI fun _ _ => ⟨?_, rfl⟩⟩
    rw [if_pos (by rw [this]; simp)]
  · have := tyc_inj hI ha n0 y
    refine ⟨jbo1, endI fun _ _ => ⟨?_, rfl⟩⟩
    rw [if_pos (by rw [this]; simp)]
  · refine ⟨jbo0, endI fun _ _ => ⟨?_, rfl⟩⟩
    rw [if_neg]
    simp only [Bool.or_eq_true, beq_iff_eq]
    rintro (q | q | q)
    · exact y (by rw [q]; rfl)
    · exact w (by rw [q]; rfl)
    · exact z (by rw [q])
  · have := tyc_inj hI hb n0 w
    refine ⟨jbo1, endI fun _ _ => ⟨?_, rfl⟩⟩
    rw [if_pos (by rw [this]; simp)]
/-- a fault was made in the heap hm -/
def Flt (hm h' : JH) (y : Nat) (c : Str) : Prop := FtR h' y c (-1) ∧ New hm h' 1 8
theorem w_fault {j : Nat} {w : String} (hj : j < 345 ∧ jcon j = sStr w) (hd : 7 ≤ d) : cX1_fault D d (jcs D j) h (pR D h 9 (fun v h' => v ≠ 0 ∧ Flt h h' v (sStr w)) no) := by
  refine JW.inv fun hI => ?_
  have kc : StR h (jcs D j) (sStr w) := by rw [← hj.2]; exact k_const hI hj.1
  refine JW.up (n := 7) (fun z => useR0 (k_fault (d := z) kc) ?_) hd
  rintro v h1 _ _ z
  exact ⟨z.1.1, z⟩
theorem w_tneed {a b : Nat} (ha : TyOk a) (hb : TyOk b) (hd : 8 ≤ d) : cX24_need D d (tyc D a) (tyc D b) h (pV D h (fun h' => tFits a b = .ok () ∧ h' = h) (fun y h' => tFits a b = .error (sStr "42804") ∧ Flt h h' y (sStr "42804"))) := by
  obtain ⟨e, rfl, he⟩ := dsucc hd
  refine JW.inv fun hI => t_X24_need ⟨?_, useI0 (k_fits ha hb (by omega)) ?_⟩
  · unfold tyc
    rcases ha with rfl | rfl | rfl | rfl <;> exact cst0 hI (by decide)
  rintro v h1 _ _ ⟨rfl, rfl⟩
  by_cases c : (a == 0 || (b == 0 || a == b)) = true
  · rw [if_pos c]
    exact ⟨fun _ => endV fun _ _ => ⟨by unfold tFits xMust; rw [if_pos c], rfl⟩, fun z => absurd z (by decide)⟩
  · rw [if_neg c]
    refine ⟨fun z => absurd rfl z, fun _ => useR0 (w_fault (w := "42804") ⟨by decide, by decide +kernel⟩ (by omega)) ?_⟩
    rintro y h2 _ _ ⟨z1, z2⟩
    exact ⟨z1, fun _ _ => ⟨by unfold tFits xMust; rw [if_neg c]; rfl, z2⟩⟩
end
