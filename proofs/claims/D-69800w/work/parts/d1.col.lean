/-! the component: the columns of SELECT: one more -/
section
variable {D : JD} {h h' h'' h0 h1 h2 : JH} {ρ ρ0 : Nat → Nat} {A : List Nod} {E E' : TEnv} {q c r i v k j d e sc n B u x z s nm arr cnt ra rb cn t : Nat} {y : Stm} {pt : List Nat} {S : Nat → Prop} {w1 w2 : Str} {L : List (Nat × List (Str × Tab))} {gs : List Nat} {gr : Bool} {cs : List SCol} {nd : Nod}
theorem PlT.fn (hA : NOK A) (hf : ∀ k F, k < A.length → F = 119 ∨ F = 120 → jfi h' F (ρ k) = jfi h F (ρ k)) : ∀ (f i : Nat), i < A.length → PlT A E h ρ f i → PlT A E h' ρ f i
  | 0, _, _, _ => trivial
  | f + 1, i, il, k => by
    refine ⟨fun z => by rw [hf i 119 il (Or.inl rfl), hf i 120 il (Or.inr rfl)]; exact k.1 z, fun p hp => PlT.fn hA hf f p ?_ (k.2 p hp)⟩
    have := ((Til.lt (hA i il).2.1).2 p hp).1
    omega
theorem PlA.fn (k : PlA A E h ρ i) (hA : NOK A) (hf : ∀ k F, k < A.length → F = 119 ∨ F = 120 → jfi h' F (ρ k) = jfi h F (ρ k)) (il : i < A.length) : PlA A E h' ρ i := fun g => PlT.fn hA hf g i il (k g)
theorem PlT.ext (hA : NOK A) : ∀ (f i : Nat), i < A.length → PlT A E h ρ f i → PlT (A ++ [nd]) E h (rup ρ A.length x) f i
  | 0, _, _, _ => trivial
  | f + 1, i, il, k => by
    refine ⟨fun z => ?_, fun p hp => ?_⟩
    · rw [nat_ext il] at z ⊢
      rw [rup_lt il]
      exact k.1 z
    · rw [nat_ext il] at hp
      have := ((Til.lt (hA i il).2.1).2 p hp).1
      exact PlT.ext hA f p (by omega) (k.2 p hp)
theorem PlA.ext (k : PlA A E h ρ i) (hA : NOK A) (il : i < A.length) : PlA (A ++ [nd]) E h (rup ρ A.length x) i := fun g => PlT.ext hA g i il (k g)
theorem SkP.mv (P : SkP D S A ρ sc E pt L ra rb h h1) (hA : NOK A) (hI1 : JInv D h1) (kf2 : KF chkK h1 h2) (sf2 : SFg D S h1 h2) (tr2 : TreeR D h2 A ρ) (sC2 : ScC D h2 sc E) (w : jfi h2 52 sc = jfi h1 52 sc) (f8 : ∀ q, jkd h1 q ≠ 0 → jfr h2 138 q = jfr h1 138 q) {a b : Nat} (z1 : jsz h2 ≤ jsz h1 + a) (z2 : jus h2 ≤ jus h1 + b) (fi : ∀ k F, k < A.length → F = 119 ∨ F = 120 → jfi h2 F (ρ k) = jfi h1 F (ρ k)) : SkP D S A ρ sc E pt L (ra + a) (rb + b) h h2 := by
  obtain ⟨⟨kf, sf, tr, sC, w5, g8, y1, y2⟩, pl⟩ := P
  exact ⟨⟨kf.tr kf2, sf.tr sf2 hI1, tr2, sC2, w.trans w5, fun q hq => (f8 q (by rw [kf.2.2.1 q hq]; exact hq)).trans (g8 q hq), by omega, by omega⟩, fun p hp => ⟨(pl p hp).1, (pl p hp).2.fn hA fi (pl p hp).1⟩⟩
/-- stars of the statement v: cn of them may be nodes -/
def StI (D : JD) (h h1 : JH) (v : Nat) (ρ : Nat → Nat) (N cn : Nat) : Prop :=
  (∀ i, i < 16 → jar h1 (jfr h 157 v) i = 0 ∨ StrO D h1 (jar h1 (jfr h 157 v) i)) ∧ (∀ i j, i < 16 → j < 16 → jar h1 (jfr h 157 v) i = jar h1 (jfr h 157 v) j → jar h1 (jfr h 157 v) i ≠ 0 → i = j) ∧ (∀ i k, i < 16 → k < N → jar h1 (jfr h 157 v) i = ρ k → i < cn) ∧ ∀ i, i < 16 → jar h1 (jfr h 157 v) i = jar h (jfr h 157 v) i ∨ jsz h < jar h1 (jfr h 157 v) i
/-- the stars that may be written -/
def stX (h : JH) (v q : Nat) : Prop := q = jfr h 157 v ∨ jsz h < q ∨ ∃ i, i < 16 ∧ jar h (jfr h 157 v) i = q
/-- while the columns of SELECT are checked -/
def SkC (D : JD) (A : List Nod) (ρ : Nat → Nat) (sc : Nat) (E : TEnv) (pt : List Nat) (L : List (Nat × List (Str × Tab))) (ra rb v : Nat) (gs : List Nat) (gr : Bool) (cs : List SCol) (cn : Nat) (h h1 : JH) : Prop :=
  SkP D (stX h v) A ρ sc E pt L ra rb h h1 ∧ GsK h1 sc ρ gs ∧ jfi h1 160 v = (if gr = true then 1 else 0) ∧ (jfi h1 159 v = nI cs.length ∧ cs.length ≤ 16) ∧ (∀ (i : Nat) c, cs[i]? = some c → jar h1 (jfr h 156 v) i = ρ c.1 ∧ StR h1 (jar h1 (jfr h 158 v) i) c.2.1 ∧ jfr h1 109 (ρ c.1) = tyc D c.2.2 ∧ TyOk c.2.2 ∧ (c.1, E.1) ∈ L) ∧ StI D h h1 v ρ A.length cn
theorem SkC.ck (C : SkC D A ρ sc E pt L ra rb v gs gr cs cn h h1) (hA : NOK A) (ri : RI ρ A.length) (hI1 : JInv D h1) (P : SkP D (stX h v) A ρ sc E pt (L ++ [(x, E.1)]) ra rb h h2) (c : CkF sc (NM A ρ (ndL (nat_ A x)) (x + 1)) h1 h2) (ap : Apt A L x) : SkC D A ρ sc E pt (L ++ [(x, E.1)]) ra rb v gs gr cs cn h h2 := by
  obtain ⟨P1, G, f160, ⟨f159, l16⟩, cl, ⟨s1, s2, s3, s4⟩⟩ := C
  have sf2 := c.sf hA hI1 P1.1.2.2.1 P1.1.2.2.2.1.1.2
  have ea : ∀ q i, jar h2 q i = jar h1 q i := fun q i => (c.2.2.1 q i).1
  refine ⟨P, G.ck c, (c.2.2.2.2.2 160 v (fun z => absurd z (by decide)) (fun z => by omega)).trans f160, ⟨(c.2.2.2.2.2 159 v (fun z => absurd z (by decide)) (fun z => by omega)).trans f159, l16⟩, fun i cc hc => ?_, fun i hi => ?_, fun i j => ?_, fun i k => ?_, fun i => ?_⟩
  · obtain ⟨a1, a2, a3, a4, a5⟩ := cl i cc hc
    refine ⟨by rw [ea]; exact a1, by rw [ea]; exact sf2.2.2.2.2.2.2.1 _ _ a2, ?_, a4, List.mem_append_left _ a5⟩
    have cl' := (P1.2 _ a5).1
    have nl := (hA _ cl').1
    rw [CkF.tyOut ri c cl' (by rcases ap _ a5 with z | z; exact Or.inr z; exact Or.inl (by have z : x < ndL (nat_ A cc.1) := z; omega))]
    exact a3
  · rw [ea]
    rcases s1 i hi with z | z
    · exact Or.inl z
    · exact Or.inr (z.sf sf2 hI1)
  · rw [ea, ea]; exact s2 i j
  · rw [ea]; exact s3 i k
  · rw [ea]; exact s4 i
/-- a star has been taken: its node is there -/
theorem SkC.star (C : SkC D A ρ sc E pt L ra rb v gs gr cs cs.length h h1) (hA : NOK A) (ri : RI ρ A.length) (hI : JInv D h) (hI1 : JInv D h1) (kd : SelR h ρ0 v y) (a : StF h1 h2 x (jfr h 157 v) cs.length) (so : StrO D h2 x) (t1 : StR h2 (jfr h2 117 x) w1) (t2 : StR h2 (jfr h2 118 x) w2) (l20 : w2.length ≤ 20) (hc : cs.length < 16 → jar h2 (jfr h 157 v) cs.length = x) (ho : x ≤ jsz h1 → cs.length < 16 ∧ jar h1 (jfr h 157 v) cs.length = x) (gl : ∀ g ∈ gs, g < A.length) :
    SkC D (A ++ [(2, 0, w2, some w1, vNull, [], A.length)]) (rup ρ A.length x) sc E pt L (ra + 2) (rb + 11) v gs gr cs (cs.length + 1) h h2 ∧ NOK (A ++ [(2, 0, w2, some w1, vNull, [], A.length)]) ∧ RI (rup ρ A.length x) (A ++ [(2, 0, w2, some w1, vNull, [], A.length)]).length := by
  obtain ⟨P1, G, f160, ⟨f159, l16⟩, cl, ⟨s1, s2, s3, s4⟩⟩ := C
  have tr1 := P1.1.2.2.1
  have sC1 := P1.1.2.2.2.1
  have sg1 := P1.1.2.1
  have kd1 : SelR h1 ρ0 v y := kd.sf sg1
  obtain ⟨v0, vk⟩ := kd.vk
  have fv := (sg1.at vk (by decide)).2.2.2.2.1
  have aa := kd1.arr (a := (157, 159, 16)) (by decide)
  have e157 : jfr h1 157 v = jfr h 157 v := fv 157 rfl
  have aa : AR h1 (jfr h 157 v) 159 16 := by rw [← e157]; exact aa
  have kx : x ≤ jsz h1 → jkd h1 x = 24 := fun z => by
    obtain ⟨z1, z2⟩ := ho z
    rcases s1 _ z1 with y | y
    · rw [z2] at y; exact absurd y so.1
    · rw [z2] at y; exact y.2.1
  have nx : ∀ k, k < A.length → ρ k ≠ x := fun k kl z => by
    have kr := NodR.lt hI1 (tr1 k kl)
    rw [z] at kr
    obtain ⟨z1, z2⟩ := ho kr
    have := s3 cs.length k z1 kl (by rw [z2, z])
    omega
  have na : ∀ k, k < A.length → ρ k ≠ jfr h 157 v := fun k kl z => by
    have nr := tr1 k kl
    have nk := nkd_ex (nat_ A k)
    have := nr.2.1
    rw [z, aa.2.1] at this
    omega
  have sm : ∀ q, jkd h1 q ≠ 0 → jkd h1 q ≠ 24 → jkd h1 q ≠ 159 → same h1 h2 q := fun q q0 q1 q2 => a.obj hI1 kx aa.2.1 q0 q1 q2
  have sg : SFg D (fun q => q = x ∨ q = jfr h 157 v) h1 h2 := a.sg hI1 kx aa.2.1
  have tr2 : TreeR D h2 A ρ := tr1.sg sg (fun i il z => by rcases z with z | z; exact nx i il z; exact na i il z) hA hI1
  have sgS : SFg D (stX h v) h1 h2 := sg.mono fun q hq z => by
    rcases z with z | z
    · rw [z]
      obtain ⟨z1, z2⟩ := ho (by rw [← z]; exact hI1.lt hq)
      rcases s4 _ z1 with y | y
      · exact Or.inr (Or.inr ⟨_, z1, by rw [← y]; exact z2⟩)
      · rw [z2] at y
        exact Or.inr (Or.inl y)
    · exact Or.inl z
  have st : ∀ q w, StR h1 q w → StR h2 q w := fun q w k => a.str hI1 kx aa.2.1 k
  have vk1 := kd1.vk.2
  have sv : same h1 h2 v := sm v (by rw [vk1]; decide) (by rw [vk1]; decide) (by rw [vk1]; decide)
  have s6 := sC1.1.2
  have ssc : same h1 h2 sc := sm sc (by rw [s6]; decide) (by rw [s6]; decide) (by rw [s6]; decide)
  have fiN : ∀ k F, k < A.length → F = 119 ∨ F = 120 → jfi h2 F (ρ k) = jfi h1 F (ρ k) := fun k F kl _ => (a.1 (ρ k) (NodR.lt hI1 (tr1 k kl)) fun z => by rcases z with z | z; exact nx k kl z; exact na k kl z).fi F
  have f8 : ∀ q, jkd h1 q ≠ 0 → jfr h2 138 q = jfr h1 138 q := fun q hq => by
    by_cases z1 : q = x
    · rw [z1]
      exact ((a.2.1 (by rw [← z1]; exact hI1.lt hq)).2.2.1 138).2.2 (by decide) (by decide)
    · by_cases z2 : q = jfr h 157 v
      · rw [z2]; exact (a.2.2.1.2.2.1 138).2.2
      · exact (a.1 q (hI1.lt hq) fun z => by rcases z with z | z; exact z1 z; exact z2 z).fr 138
  have P2 : SkP D (stX h v) A ρ sc E pt L (ra + 2) (rb + 11) h h2 := P1.mv hA hI1 (a.kf hI1 kx aa.2.1) sgS tr2 (sC1.obj hI1 sm) (ssc.fi 52) f8 a.2.2.2.1.2.1 a.2.2.2.1.2.2 fiN
  have nr : NodR D h2 ρ (2, 0, w2, some w1, vNull, [], A.length) x := by
    refine ⟨so.1, so.2.1, so.2.2, fun e => ?_, fun e => ?_, fun e => ⟨t2, t1⟩, fun e => ?_, fun e => ?_, fun e => ?_, fun e => ?_, fun e => ?_, fun e => ?_, fun e => ?_⟩
    all_goals (exfalso; (have e' := e; simp only [ndO] at e'; omega))
  have sh : Shp ((2, 0, w2, some w1, vNull, [], A.length) : Nod) := Or.inr (Or.inr (Or.inl ⟨rfl, rfl, rfl⟩))
  have tr3 : TreeR D h2 (A ++ [(2, 0, w2, some w1, vNull, [], A.length)]) (rup ρ A.length x) := tr2.add hA nr sh fun p hp => absurd hp List.not_mem_nil
  have eρ : ∀ k, k < A.length → rup ρ A.length x k = ρ k := fun k kl => rup_lt kl
  have len : (A ++ [((2, 0, w2, some w1, vNull, [], A.length) : Nod)]).length = A.length + 1 := by rw [List.length_append]; rfl
  have hA2 : NOK (A ++ [(2, 0, w2, some w1, vNull, [], A.length)]) := fun k kl => by
    rw [len] at kl
    by_cases kk : k < A.length
    · obtain ⟨b1, b2, b3, b4⟩ := hA k kk
      unfold NodOk
      rw [nat_ext kk]
      exact ⟨b1, Til.ext b2 (by omega), b3, b4⟩
    · have : k = A.length := by omega
      subst this
      unfold NodOk
      rw [nat_last]
      exact ⟨Nat.le_refl _, Nat.le_refl _, sh, l20⟩
  refine ⟨⟨⟨⟨P2.1.1, P2.1.2.1, tr3, P2.1.2.2.2⟩, fun p hp => ⟨by rw [len]; have := (P2.2 p hp).1; omega, (P2.2 p hp).2.ext hA (P2.2 p hp).1⟩⟩, ?_, (sv.fi 160).trans f160, ⟨(sv.fi 159).trans f159, l16⟩, fun i cc hi => ?_, ?_⟩, hA2, ri.add nx⟩
  · obtain ⟨⟨g1, g2, g3, g4, g5, g6⟩, g7⟩ := G.obj s6 sm
    exact ⟨⟨g1, g2, g3, g4, g5, fun k g hg => by rw [eρ g (gl g (List.mem_of_getElem? hg))]; exact g6 k g hg⟩, g7⟩
  · obtain ⟨a1, a2, a3, a4, a5⟩ := cl i cc hi
    have cl' := (P1.2 _ a5).1
    have b1 := kd1.arr (a := (156, 158, 16)) (by decide)
    have b2 := kd1.arr (a := (158, 160, 16)) (by decide)
    have b1 : AR h1 (jfr h 156 v) 158 16 := by rw [← fv 156 rfl]; exact b1
    have b2 : AR h1 (jfr h 158 v) 160 16 := by rw [← fv 158 rfl]; exact b2
    have c1 := sm (jfr h 156 v) (by rw [b1.2.1]; decide) (by rw [b1.2.1]; decide) (by rw [b1.2.1]; decide)
    have c2 := sm (jfr h 158 v) (by rw [b2.2.1]; decide) (by rw [b2.2.1]; decide) (by rw [b2.2.1]; decide)
    rw [eρ _ cl', c1.ar, c2.ar]
    refine ⟨a1, st _ _ a2, ?_, a4, a5⟩
    rw [(a.1 (ρ cc.1) (NodR.lt hI1 (tr1 _ cl')) fun z => by rcases z with z | z; exact nx _ cl' z; exact na _ cl' z).fr 109]
    exact a3
  · have ej : ∀ i, i < 16 → jar h2 (jfr h 157 v) i = jar h1 (jfr h 157 v) i ∨ (i = cs.length ∧ jar h2 (jfr h 157 v) i = x) := fun i hi => by
      by_cases z : i = cs.length
      · subst z
        exact Or.inr ⟨rfl, hc hi⟩
      · exact Or.inl (a.2.2.1.2.2.2.2 i z)
    have ol : ∀ i, i < 16 → jar h1 (jfr h 157 v) i = x → i = cs.length := fun i hi z => by
      obtain ⟨z1, z2⟩ := ho (by rw [← z]; exact hI1.eltl)
      exact s2 i _ hi z1 (z.trans z2.symm) (by rw [z]; exact so.1)
    refine ⟨fun i hi => ?_, fun i j hi hj z z0 => ?_, fun i k hi kl z => ?_, fun i hi => ?_⟩
    · rcases ej i hi with e | ⟨_, e⟩
      · rw [e]
        rcases s1 i hi with y | y
        · exact Or.inl y
        · exact Or.inr (y.sf sg hI1)
      · rw [e]; exact Or.inr so
    · rcases ej i hi with e | ⟨e0, e⟩
      · rcases ej j hj with e' | ⟨e0', e'⟩
        · rw [e, e'] at z
          rw [e] at z0
          exact s2 i j hi hj z z0
        · rw [e, e'] at z
          rw [e0']; exact ol i hi z
      · rcases ej j hj with e' | ⟨e0', e'⟩
        · rw [e, e'] at z
          rw [e0]; exact (ol j hj z.symm).symm
        · omega
    · rw [len] at kl
      rcases ej i hi with e | ⟨e0, e⟩
      · rw [e] at z
        by_cases kk : k < A.length
        · rw [eρ k kk] at z
          have := s3 i k hi kk z
          omega
        · have : k = A.length := by omega
          subst this
          rw [rup_eq] at z
          have := ol i hi z
          omega
      · omega
    · rcases ej i hi with e | ⟨e0, e⟩
      · rw [e]; exact s4 i hi
      · rw [e]
        by_cases z : x ≤ jsz h1
        · obtain ⟨z1, z2⟩ := ho z
          rw [e0, ← z2]
          exact s4 _ z1
        · right
          have := P1.1.1.2.1
          omega
end
