/-! the component: COUNT, SUM, MIN, MAX -/
section
variable {D : JD} {h h' h'' hm h0 h1 h2 h3 hb : JH} {ρ : Nat → Nat} {A : List Nod} {E Ec : TEnv} {d sc r x i n f c q lo hi t : Nat} {M : Nat → Prop} {pv : List Val} {grp : List TRow} {R : TRow} {G : TRow → JH → Prop} {wi : Bool} {z : Ex Val} {w : Val}
/-- of a group; the row is the first of the group -/
def GF (D : JD) (E : TEnv) (sc : Nat) (grp : List TRow) (R : TRow) (h : JH) : Prop := GrpR D E sc grp h ∧ (grp = [] ∨ grp.head? = some R)
def GA (D : JD) (E : TEnv) (sc : Nat) (grp : List TRow) (_ : TRow) (h : JH) : Prop := GrpR D E sc grp h
theorem evG0 : EvG D A ρ sc (GA D E sc grp) := fun _ _ _ _ _ hI tr ow _ k a => GrpR.ev k a hI ow fun _ hc => tr.emW hI hc
theorem evGF : EvG D A ρ sc (GF D E sc grp) := fun _ _ _ _ _ hI tr ow _ k a => ⟨k.1.ev a hI ow fun _ hc => tr.emW hI hc, k.2⟩
/-- without aggregates -/
def Ec0 (Ec : TEnv) : TEnv := (Ec.1, Ec.2.1, false)
theorem tNode_in {nd : Nod} {ts : List Nat} : tNode (Ec0 Ec) true nd ts = tNode Ec true nd ts := by
  unfold tNode
  split
  all_goals first | rfl | skip
  all_goals (unfold tFun Ec0; simp only [Bool.not_true, Bool.and_false])
theorem tTree_in : ∀ (f i : Nat), tTree A (Ec0 Ec) f true i = tTree A Ec f true i
  | 0, _ => rfl
  | f + 1, i => by
    rw [tTree_eq, tTree_eq]
    simp only [Bool.true_or]
    rw [show tTree A (Ec0 Ec) f true = tTree A Ec f true from funext fun j => tTree_in f j]
    exact congrArg _ (funext fun ts => tNode_in)
theorem EvC.in0 (C : EvC A E Ec ρ pv grp) : EvC A E (Ec0 Ec) ρ pv grp := C
/-- the best cell is no other node's -/
theorem EM.out5 (t : TreeR D h A ρ) (ow : OW h) (hI : JInv D h) (ri : RI ρ A.length) (il : i < A.length) (hc : jfr h 115 (ρ i) ≠ 0) (ho : hi ≤ i ∨ i < lo) : ¬ EM h A ρ lo hi (jfr h 115 (ρ i)) := by
  rintro ⟨j, j1, j2, j3, j4, j5⟩
  have k99 : jkd h (jfr h 115 (ρ i)) = 99 := hI.ref (F := 115) (by decide +kernel) hc
  rcases j5 with e | ⟨e1, e2⟩
  · have k98 : jkd h (jfr h 108 (ρ j)) = 98 := hI.ref (F := 108) (by decide +kernel) (t j j3).2.2.1.1
    rw [← e] at k98; omega
  · have := ow 115 _ _ (Or.inr (Or.inr rfl)) e2 hc
    have := ri i j il j3 this
    omega
/-- while rows of the group are gone through -/
def AgS (D : JD) (A : List Nod) (E : TEnv) (ρ : Nat → Nat) (sc : Nat) (pv : List Val) (grp : List TRow) (R : TRow) (i p f : Nat) (h h1 : JH) : Prop :=
  EvF D sc (EM h A ρ (ndL (nat_ A i)) (i + 1)) h h1 ∧ TreeR D h1 A ρ ∧ OW h1 ∧ (∃ R', EnvR D h1 sc E R' pv) ∧ GrpR D E sc grp h1 ∧ (grp = [] → EnvR D h1 sc E R pv) ∧ (ndK (nat_ A i) = 0 → PlT A E h1 ρ f p)
theorem AgS.go {p : Nat} {R' : TRow} (S : AgS D A E ρ sc pv grp R i p f h h1) (C : EvC A E Ec ρ pv grp) (hI : JInv D h1) (pl : ndK (nat_ A i) = 0 → p < A.length) (hl : ndL (nat_ A i) ≤ lo) (hh : hi ≤ i + 1) (a : EvF D sc (EM h1 A ρ lo hi) h1 h2) (en : EnvR D h2 sc E R' pv) (e0 : grp = [] → EnvR D h2 sc E R pv) : AgS D A E ρ sc pv grp R i p f h h2 := by
  obtain ⟨s1, s2, s3, ⟨R1, s4⟩, s5, s6, s7⟩ := S
  have h56 := s4.2.1.1
  have hW : ∀ c, EM h1 A ρ lo hi c → CelW D h1 c ∧ (jkd h1 c = 98 ∨ jkd h1 c = 99) := fun c hc => s2.emW hI hc
  have b : EvF D sc (EM h1 A ρ (ndL (nat_ A i)) (i + 1)) h1 h2 := a.mono (fun q hq => hq.mono hl hh) fun c hc hn => a.keep hI s3 (fun c hc => (hW c hc).1) h56 (s2.emW hI hc).1 hn
  rw [s1.em'] at b
  exact ⟨s1.tr b, s2.ev s3 C.2.1 hI a h56, a.2.2.1 s3, ⟨R', en⟩, s5.ev a hI s3 hW, e0, fun e => PlT.ev s2 hI a (fun c hc => (hW c hc).1) h56 C.1 f p (pl e) (s7 e)⟩
/-- a row is taken -/
theorem AgS.take {p : Nat} {R' : TRow} (S : AgS D A E ρ sc pv grp R i p f h h1) (C : EvC A E Ec ρ pv grp) (hI : JInv D h1) (pl : ndK (nat_ A i) = 0 → p < A.length) (a : RwF sc h1 h2) (en : EnvR D h2 sc E R' pv) (ne : grp ≠ []) : AgS D A E ρ sc pv grp R i p f h h2 :=
  S.go (lo := ndL (nat_ A i)) (hi := i + 1) C hI pl (Nat.le_refl _) (Nat.le_refl _) (a.ev hI S.2.2.2.2.1.1.2.2.2.2.1) en fun e => absurd e ne
/-- the best cell is written -/
theorem AgS.best {p : Nat} (S : AgS D A E ρ sc pv grp R i p f h h1) (C : EvC A E Ec ρ pv grp) (hI : JInv D h1) (hI' : JInv D h2) (il : i < A.length) (o : ndO (nat_ A i) = 3) (nk : nkd (nat_ A i) = 22) (pl : ndK (nat_ A i) = 0 → p < A.length) (hf : CelF h1 h2 (jfr h1 115 (ρ i))) (hw : CelW D h2 (jfr h1 115 (ρ i))) (hle : jle h1 h2) : AgS D A E ρ sc pv grp R i p f h h2 := by
  obtain ⟨R', en⟩ := S.2.2.2.1
  have h56 := en.2.1.1
  have k142 : jkd h1 (jfr h1 56 sc) = 142 := hI.ref (F := 56) (by decide +kernel) h56
  have cw := (((S.2.1 i il).2.2.2.2.2.2.1 o).1 nk).2.2
  have k99 : jkd h1 (jfr h1 115 (ρ i)) = 99 := hI.ref (F := 115) (by decide +kernel) cw.1
  have mc : EM h1 A ρ (ndL (nat_ A i)) (i + 1) (jfr h1 115 (ρ i)) := ⟨i, (C.1 i il).1, Nat.lt_succ_self _, il, by omega, Or.inr ⟨nk, rfl⟩⟩
  have a := hf.ev (sc := sc) hI hI' S.2.2.1 mc (fun c hc => (S.2.1.emW hI hc).1) (by omega) hw hle h56
  have ha : ∀ j, jar h2 (jfr h1 56 sc) j = jar h1 (jfr h1 56 sc) j := fun j => (hf.1 _ hI.refl (by
    rintro (z | z)
    · rw [z] at k142; omega
    · rcases cw.2.2.2.2 with w | w
      · rw [w] at z; exact h56 z
      · rw [← z, k142] at w; omega)).ar j
  exact S.go C hI pl (Nat.le_refl _) (Nat.le_refl _) a (en.ev a hI S.2.2.1 (fun c hc => S.2.1.emW hI hc) ha) fun e => (S.2.2.2.2.2.1 e).ev a hI S.2.2.1 (fun c hc => S.2.1.emW hI hc) ha
/-- the end: the value goes into the own cell -/
theorem w_ag219 {k : Nat} {b : Val} (C : EvC A E Ec ρ pv grp) (S : EvS D A E Ec ρ sc pv G R i h h1) (il : i < A.length) (o : ndO (nat_ A i) = 3) (nk : nkd (nat_ A i) = 22) (kb : ndS (nat_ A i) ≠ sStr "count" → Cel D h1 (jfr h1 115 (ρ i)) b) (hz : z = if (ndS (nat_ A i) == sStr "count") = true then xNum (Int64.ofNat k) else .ok b) (hd : 9 ≤ d) :
    W_X28_at_219 D d (EQ D A E ρ sc pv i R hb h z) (ρ i) (lN k) h1 := by
  have nr := S.2.1 i il
  have f3 := (nr.2.2.2.2.2.2.1 o).1 nk
  refine ⟨nr.1, f3.1.1, w_eq' (w := "count") f3.1 ⟨by decide, by decide +kernel⟩ (by omega) (fun e => ⟨nr.2.2.1.1, ?_⟩) fun e => ⟨nr.2.2.1.1, ?_⟩⟩
  · rw [if_pos (by simpa using e)] at hz
    exact fin_number C S il (by omega) hz (by omega)
  · rw [if_neg (by simpa using e)] at hz
    exact fin_copy C S il (by omega) (kb e) hz (by omega)
/-- all rows have been gone through -/
theorem w_agEnd {k p : Nat} {b : Val} (C : EvC A E Ec ρ pv grp) (S : AgS D A E ρ sc pv grp R i p f h h1) (hI : JInv D h1) (hR : grp = [] ∨ grp.head? = some R) (rk : RowOk Ec R) (pl : ndK (nat_ A i) = 0 → p < A.length) (il : i < A.length) (o : ndO (nat_ A i) = 3) (nk : nkd (nat_ A i) = 22) (kb : ndS (nat_ A i) ≠ sStr "count" → Cel D h1 (jfr h1 115 (ρ i)) b) (hz : z = if (ndS (nat_ A i) == sStr "count") = true then xNum (Int64.ofNat k) else .ok b) (hd : 9 ≤ d) (gl : grp.length ≤ 10000) :
    (jfi h1 58 sc ≤ 0 → W_X28_at_219 D d (EQ D A E ρ sc pv i R hb h z) (ρ i) (lN k) h1) ∧ (¬ jfi h1 58 sc ≤ 0 → (jfr h1 57 sc) ≠ 0 ∧ jin (jfi h1 59 sc) (jln h1 (jfr h1 57 sc)) ∧ (cX6_take D d sc (jai h1 (jfr h1 57 sc) (ixn (jfi h1 59 sc))) h1 (pV D h1 (fun h2 => W_X28_at_219 D d (EQ D A E ρ sc pv i R hb h z) (ρ i) (lN k) h2) (jth (EQ D A E ρ sc pv i R hb h z))))) := by
  obtain ⟨g1, g2, g3⟩ := S.2.2.2.2.1
  rw [g2]
  refine ⟨fun y => ?_, fun y => ?_⟩
  · have : grp.length ≤ 0 := (nI_leI (b := 0) (by omega) (by omega)).mp y
    have ge : grp = [] := List.eq_nil_of_length_eq_zero (by omega)
    exact w_ag219 (G := GF D E sc grp) C ⟨S.1, S.2.1, S.2.2.1, S.2.2.2.2.2.1 ge, ⟨S.2.2.2.2.1, hR⟩, rk⟩ il o nk kb hz hd
  · have gn : grp ≠ [] := fun e => y (by rw [e]; decide)
    have hR := hR.resolve_left gn
    obtain ⟨st, t1, ⟨t2, t3⟩, t4, t5⟩ := g3 gn
    have gl : 0 < grp.length := List.length_pos_iff.mpr gn
    have h0 : grp[0]? = some R := by rw [← List.head?_eq_getElem?]; exact hR
    obtain ⟨tn, n1, n2, n3⟩ := t5 0 R h0
    obtain ⟨R', en⟩ := S.2.2.2.1
    rw [t1]
    refine ⟨t2, by rw [t3]; exact jin_nI (by omega) (by decide), ?_⟩
    rw [ixn_nI (by omega), show st = st + 0 from rfl, n2]
    refine useV0 (w_take g1 n3 n1 en (by omega)) ?_
    rintro h2 hI2 hle ⟨rf, en2⟩
    have S2 := S.take C hI pl rf en2 gn
    refine w_ag219 (G := GF D E sc grp) C ⟨S2.1, S2.2.1, S2.2.2.1, en2, ⟨S2.2.2.2.2.1, Or.inr hR⟩, rk⟩ il o nk (fun e => ?_) hz hd
    have kc := kb e
    have k142 : jkd h1 (jfr h1 56 sc) = 142 := hI.ref (F := 56) (by decide +kernel) en.2.1.1
    have kk := kc.1.kd
    rw [rf.2.2.1]
    refine kc.of (rf.1 _ fun e => ?_) (fun h0 => rf.1 _ fun e => ?_)
    · rw [e] at kk; omega
    · have := (kc.1.2.2.2.2.resolve_left h0).1
      rw [e] at this; omega
theorem w_agStarL {p : Nat} (C : EvC A E Ec ρ pv grp) (hR : grp = [] ∨ grp.head? = some R) (rk : RowOk Ec R) (il : i < A.length) (o : ndO (nat_ A i) = 3) (hk : ndK (nat_ A i) = 1) (hs : ndS (nat_ A i) = sStr "count") (gl : grp.length ≤ 10000) (hz : z = xNum (Int64.ofNat grp.length)) (hd : 9 ≤ d) :
    ∀ (m k : Nat) (h1 : JH), JInv D h1 → k + m = grp.length → AgS D A E ρ sc pv grp R i p f h h1 → L_X28_at_13 D d (EQ D A E ρ sc pv i R hb h z) (m + 1) (ρ i) sc (lN k) (nI k) h1
  | m, k, h1, hI1, hkm, S => by
    have nk : nkd (nat_ A i) = 22 := by
      unfold nkd
      rw [o]
      exact if_pos (Or.inl hk)
    have pl : ndK (nat_ A i) = 0 → p < A.length := fun e => by omega
    obtain ⟨g1, g2, g3⟩ := S.2.2.2.2.1
    refine ⟨g1.1.1, fun y => ?_, fun y => ?_⟩
    · rw [g2] at y
      have y := (nI_leI (by omega) (by omega)).mp y
      exact w_agEnd (b := vNull) C S hI1 hR rk pl il o nk (fun e => absurd hs e) (by rw [hz, if_pos (by simpa using hs), show k = grp.length by omega]) hd gl
    · rw [g2] at y
      have kl : k < grp.length := Nat.lt_of_not_le fun z => y ((nI_leI (by omega) (by omega)).mpr z)
      obtain ⟨m', rfl⟩ : ∃ m', m = m' + 1 := ⟨m - 1, by omega⟩
      have gn : grp ≠ [] := fun e => by rw [e] at kl; exact absurd kl (Nat.not_lt_zero _)
      obtain ⟨st, t1, ⟨t2, t3⟩, t4, t5⟩ := g3 gn
      obtain ⟨tn, n1, n2, n3⟩ := t5 k _ (List.getElem?_eq_getElem kl)
      obtain ⟨R', en⟩ := S.2.2.2.1
      rw [t1, nI_add]
      refine ⟨t2, by rw [t3]; exact jin_nI (by omega) (by decide), ?_⟩
      rw [ixn_nI (by omega), n2]
      refine useV0 (w_take g1 n3 n1 en (by omega)) ?_
      rintro h2 hI2 hle ⟨rf, en2⟩
      have S2 := S.take C hI1 pl rf en2 gn
      have nr := S2.2.1 i il
      have f3 := (nr.2.2.2.2.2.2.1 o).1 nk
      refine ⟨nr.1, fun y => ?_, fun _ => ?_⟩
      · rw [f3.2.1, hk] at y
        exact absurd y (by decide)
      · have := w_agStarL C hR rk il o hk hs gl hz hd m' (k + 1) h2 hI2 (by omega) S2
        unfold W_X28_at_193
        rw [nI_1, lN_1]
        exact this
end
