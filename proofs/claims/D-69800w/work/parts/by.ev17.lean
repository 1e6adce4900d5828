/-! the component: rows of a tuple are taken -/
section
variable {D : JD} {h h' h'' hm h0 h1 h2 h3 hb : JH} {ρ : Nat → Nat} {A : List Nod} {E Ec : TEnv} {d sc r x i n f c q lo hi t : Nat} {M : Nat → Prop} {pv : List Val} {grp : List TRow} {R : TRow} {G : TRow → JH → Prop} {wi : Bool} {z : Ex Val} {w : Val}
/-- the row ri of the table of a source -/
def SrcW (D : JD) (h : JH) (s ri : Nat) (row : List Val) (w : Nat) : Prop :=
  (s ≠ 0 ∧ jkd h s = 31) ∧ (jfr h 138 s ≠ 0 ∧ jkd h (jfr h 138 s) = 5) ∧ (jfr h 45 (jfr h 138 s) ≠ 0 ∧ jln h (jfr h 45 (jfr h 138 s)) = 100) ∧ RwE D h (jar h (jfr h 45 (jfr h 138 s)) ri) (some row) w
/-- the tuple tn is the row r -/
def TkR (D : JD) (h : JH) (sc : Nat) (E : TEnv) (r : TRow) (tn : Nat) : Prop := ∀ (k : Nat) (tb : Str × Tab), E.1[k]? = some tb → match (r[k]?).join with
  | none => jai h (jfr h 60 sc) (3 * tn + k) < 0
  | some row => ∃ ri, ri < 100 ∧ jai h (jfr h 60 sc) (3 * tn + k) = nI ri ∧ SrcW D h (jar h (jfr h 47 sc) k) ri row tb.2.2.1.length
/-- the scope, its sources and tuples -/
def ScT (h : JH) (sc : Nat) (E : TEnv) : Prop := (sc ≠ 0 ∧ jkd h sc = 6) ∧ (jfi h 48 sc = nI E.1.length ∧ E.1.length ≤ 3) ∧ (jfr h 47 sc ≠ 0 ∧ jln h (jfr h 47 sc) = 3) ∧ (jfr h 60 sc ≠ 0 ∧ jln h (jfr h 60 sc) = 30000) ∧ (jfr h 56 sc ≠ 0 ∧ jln h (jfr h 56 sc) = 3)
def GrpR (D : JD) (E : TEnv) (sc : Nat) (grp : List TRow) (h : JH) : Prop := ScT h sc E ∧ jfi h 58 sc = nI grp.length ∧ (grp ≠ [] → ∃ st : Nat, jfi h 59 sc = nI st ∧ (jfr h 57 sc ≠ 0 ∧ jln h (jfr h 57 sc) = 10000) ∧ st + grp.length ≤ 10000 ∧ ∀ (k : Nat) r, grp[k]? = some r → ∃ tn, tn < 10000 ∧ jai h (jfr h 57 sc) (st + k) = nI tn ∧ TkR D h sc E r tn)
theorem sbt68 : ∀ k, k < 226 → sbt k 68 = true → k ≠ 0 ∧ k ≠ 8 ∧ (k < 96 ∨ 102 < k) ∧ k ≠ 144 ∧ k ≠ 142 ∧ k ≠ 12 := by decide +kernel
theorem JInv.k68 (hI : JInv D h) {F : Nat} (hF : ftg F = 68) {r : Nat} (h0 : jfr h F r ≠ 0) : jkd h (jfr h F r) ≠ 0 ∧ jkd h (jfr h F r) ≠ 8 ∧ (jkd h (jfr h F r) < 96 ∨ 102 < jkd h (jfr h F r)) ∧ jkd h (jfr h F r) ≠ 144 ∧ jkd h (jfr h F r) ≠ 142 ∧ jkd h (jfr h F r) ≠ 12 := by
  have k : sbt (jkd h (jfr h F r)) (ftg F) = true := Or.resolve_left (hI.2.2.1 F r) h0
  rw [hF] at k
  exact sbt68 _ (sbt_lt k) k
theorem SrcW.ev {s ri w : Nat} {row : List Val} (k : SrcW D h s ri row w) (a : EvF D sc M h h') (hI : JInv D h) (ow : OW h) (hW : ∀ c, M c → CelW D h c ∧ (jkd h c = 98 ∨ jkd h c = 99)) (h56 : jfr h 56 sc ≠ 0) : SrcW D h' s ri row w := by
  obtain ⟨⟨a1, a2⟩, ⟨b1, b2⟩, ⟨c1, c2⟩, e⟩ := k
  have hW1 : ∀ c, M c → CelW D h c := fun c hc => (hW c hc).1
  have s1 : same h h' s := a.obj hI hW1 h56 (by omega) (by omega)
  have s2 : same h h' (jfr h 138 s) := a.obj hI hW1 h56 (by omega) (by omega)
  have k3 : jkd h (jfr h 45 (jfr h 138 s)) = 140 := hI.ref (F := 45) (by decide +kernel) c1
  have s3 : same h h' (jfr h 45 (jfr h 138 s)) := a.obj hI hW1 h56 (by omega) (by omega)
  unfold SrcW
  rw [s1.kd, s1.fr, s2.kd, s2.fr, s3.ln, s3.ar]
  exact ⟨⟨a1, a2⟩, ⟨b1, b2⟩, ⟨c1, c2⟩, e.ev a hI ow hW h56⟩
theorem ScT.ev (k : ScT h sc E) (a : EvF D sc M h h') (hI : JInv D h) (hW : ∀ c, M c → CelW D h c) : ScT h' sc E ∧ same h h' sc ∧ same h h' (jfr h 47 sc) ∧ same h h' (jfr h 60 sc) := by
  obtain ⟨⟨a1, a2⟩, b, ⟨c1, c2⟩, ⟨e1, e2⟩, ⟨g1, g2⟩⟩ := k
  have s0 : same h h' sc := a.obj hI hW g1 (by omega) (by omega)
  have k1 : jkd h (jfr h 47 sc) = 141 := hI.ref (F := 47) (by decide +kernel) c1
  have s1 : same h h' (jfr h 47 sc) := a.obj hI hW g1 (by omega) (by omega)
  have k6 := hI.k68 (F := 60) (by decide +kernel) e1
  have s6 : same h h' (jfr h 60 sc) := a.obj hI hW g1 k6.1 k6.2
  refine ⟨?_, s0, s1, s6⟩
  unfold ScT
  rw [s0.kd, s0.fi, s0.fr, s1.ln, s0.fr, s6.ln, s0.fr, a.2.2.2.2.2.2.1]
  exact ⟨⟨a1, a2⟩, b, ⟨c1, c2⟩, ⟨e1, e2⟩, ⟨g1, g2⟩⟩
theorem TkR.ev {tn : Nat} {r : TRow} (k : TkR D h sc E r tn) (s : ScT h sc E) (a : EvF D sc M h h') (hI : JInv D h) (ow : OW h) (hW : ∀ c, M c → CelW D h c ∧ (jkd h c = 98 ∨ jkd h c = 99)) : TkR D h' sc E r tn := by
  obtain ⟨_, s0, s1, s6⟩ := s.ev a hI (fun c hc => (hW c hc).1)
  intro j tb hj
  have := k j tb hj
  cases hr : (r[j]?).join with
  | none =>
    rw [hr] at this
    show jai h' (jfr h' 60 sc) (3 * tn + j) < 0
    rw [s0.fr, s6.ai]
    exact this
  | some row =>
    rw [hr] at this
    obtain ⟨ri, r1, r2, r3⟩ := this
    refine ⟨ri, r1, ?_, ?_⟩
    · rw [s0.fr, s6.ai]; exact r2
    · rw [s0.fr, s1.ar]
      exact r3.ev a hI ow hW s.2.2.2.2.1
theorem GrpR.ev (k : GrpR D E sc grp h) (a : EvF D sc M h h') (hI : JInv D h) (ow : OW h) (hW : ∀ c, M c → CelW D h c ∧ (jkd h c = 98 ∨ jkd h c = 99)) : GrpR D E sc grp h' := by
  obtain ⟨k1, k2, k3⟩ := k
  have hW1 : ∀ c, M c → CelW D h c := fun c hc => (hW c hc).1
  obtain ⟨k1', s0, s1, s6⟩ := k1.ev a hI hW1
  refine ⟨k1', by rw [s0.fi]; exact k2, fun e => ?_⟩
  obtain ⟨st, t1, ⟨t2, t3⟩, t4, t5⟩ := k3 e
  have k7 := hI.k68 (F := 57) (by decide +kernel) t2
  have s7 : same h h' (jfr h 57 sc) := a.obj hI hW1 k1.2.2.2.2.1 k7.1 k7.2
  refine ⟨st, by rw [s0.fi]; exact t1, by rw [s0.fr, s7.ln]; exact ⟨t2, t3⟩, t4, fun j r hj => ?_⟩
  obtain ⟨tn, n1, n2, n3⟩ := t5 j r hj
  exact ⟨tn, n1, by rw [s0.fr, s7.ai]; exact n2, n3.ev k1 a hI ow hW⟩
/-- only the rows of the scope have changed -/
def RwF (sc : Nat) (h h' : JH) : Prop := (∀ q, q ≠ jfr h 56 sc → same h h' q) ∧ (jsz h' = jsz h ∧ Sp h h' 0 0) ∧ (∀ F q, jfr h' F q = jfr h F q) ∧ (∀ q, jkd h' q = jkd h q) ∧ jln h' (jfr h 56 sc) = jln h (jfr h 56 sc)
theorem RwF.rf : RwF sc h h := ⟨fun _ _ => same.rf _ _, ⟨rfl, Sp.rf _⟩, fun _ _ => rfl, fun _ => rfl, rfl⟩
theorem RwF.tr (a : RwF sc h h') (b : RwF sc h' h'') : RwF sc h h'' := by
  obtain ⟨a1, ⟨a2, a3⟩, a4, a5, a6⟩ := a
  obtain ⟨b1, ⟨b2, b3⟩, b4, b5, b6⟩ := b
  rw [a4] at b1 b6
  exact ⟨fun q hq => (a1 q hq).tr (b1 q hq), ⟨b2.trans a2, (a3.tr b3).mono (by omega) (by omega)⟩, fun F q => (b4 F q).trans (a4 F q), fun q => (b5 q).trans (a5 q), b6.trans a6⟩
theorem RwF.put {j v : Nat} : RwF sc h (war h (jfr h 56 sc) j v) := ⟨fun q hq => same_war hq, ⟨rfl, Sp.ar⟩, fun _ _ => rfl, fun _ => rfl, rfl⟩
theorem RwF.ev (a : RwF sc h h') (hI : JInv D h) (h56 : jfr h 56 sc ≠ 0) : EvF D sc M h h' := by
  obtain ⟨a1, ⟨a2, a3⟩, a4, a5, a6⟩ := a
  have k142 : jkd h (jfr h 56 sc) = 142 := hI.ref (F := 56) (by decide +kernel) h56
  refine ⟨fun q _ _ _ q4 _ => a1 q q4, fun c hc => ⟨Or.inl (a4 _ _), fun w => ?_⟩, fun o F x y hF => by rw [a4, a4]; exact o F x y hF, ⟨by omega, a3, fun o => ⟨fun x y i j hx hy e hn => ?_, fun x y => by rw [a4, a4]; exact o.2 x y⟩⟩, fun F q _ _ => a4 F q, fun q _ => a5 q, a6, fun q t k => ?_⟩
  · have kc := w.kd
    refine w.of (a1 c fun e => ?_) fun h0 => a1 _ fun e => ?_
    · rw [e] at kc; omega
    · have := (w.2.2.2.2.resolve_left h0).1
      rw [e] at this; omega
  · rw [a5] at hx hy
    have cx := okd_cases hx
    have cy := okd_cases hy
    have e1 := (a1 x fun z => by rw [z] at cx; omega).ar i
    have e2 := (a1 y fun z => by rw [z] at cy; omega).ar j
    rw [e1, e2] at e
    rw [e1] at hn
    exact o.1 x y i j hx hy e hn
  · have z1 := k.2.1
    have z2 := k.2.2.2.2.1
    refine k.of (a1 q fun e => ?_) (a1 _ fun e => ?_)
    · rw [e] at z1; omega
    · rw [e] at z2; omega
theorem w_row {ri : Nat} {T : Nat} (h0 : T ≠ 0) (h1 : jfr h 45 T ≠ 0 ∧ jln h (jfr h 45 T) = 100) (hr : ri < 100) (hx : jar h (jfr h 45 T) ri ≠ 0) (hd : 1 ≤ d) : cX5_row D d T (nI ri) h (pR D h 76 (fun v h' => v = jar h (jfr h 45 T) ri ∧ h' = h) no) := by
  obtain ⟨e, rfl, he⟩ := dsucc hd
  have jn : jin (nI ri) (jln h (jfr h 45 T)) := by rw [h1.2]; exact jin_nI hr (by decide)
  have ix : ixn (nI ri) = ri := ixn_nI (by omega)
  refine t_X5_row ⟨h0, h1.1, jn, ?_⟩
  rw [ix]
  refine ⟨fun _ => ⟨h0, h1.1, jn, ?_⟩, fun z => absurd z hx⟩
  rw [ix]
  exact endR fun _ _ _ => ⟨rfl, rfl⟩
/-- rows are as they were where the rows of the scope alone have changed -/
theorem RwE.rw {ra w : Nat} {o : Option (List Val)} (k : RwE D h ra o w) (a : RwF sc h h') (hI : JInv D h) (h56 : jfr h 56 sc ≠ 0) : RwE D h' ra o w := by
  have k142 : jkd h (jfr h 56 sc) = 142 := hI.ref (F := 56) (by decide +kernel) h56
  cases o with
  | none => exact k
  | some row =>
    obtain ⟨k1, k2, k3, k4, k5⟩ := k
    have kk := sbt76 (jkd h ra) (by rw [k2]; decide) (by rw [k2]; rfl)
    have s1 : same h h' ra := a.1 ra fun e => by rw [e] at kk; exact kk.2.2.2.2.1 k142
    refine ⟨k1, by rw [s1.kd]; exact k2, by rw [s1.ln]; exact k3, by rw [s1.ln]; exact k4, fun c hc => ?_⟩
    rw [s1.ar]
    obtain ⟨c1, c2⟩ := k5 c hc
    refine ⟨c1.of (a.1 _ fun e => ?_) (fun h0 => a.1 _ fun e => ?_), by rw [a.2.2.2.1]; exact c2⟩
    · rw [e] at c2; omega
    · have := (c1.1.2.2.2.2.resolve_left h0).1
      rw [e] at this; omega
theorem w_takeL {tn : Nat} {rr : TRow} {Q : JO → JH → Prop} (hI : JInv D h) (s : ScT h sc E) (k : TkR D h sc E rr tn) (tl : tn < 10000) (hd : 1 ≤ d) (hQ : ∀ h', RwF sc h h' → (∀ (j : Nat) (tb : Str × Tab), E.1[j]? = some tb → RwE D h' (jar h' (jfr h' 56 sc) j) ((rr[j]?).join) tb.2.2.1.length) → Q (.inl none) h') :
    ∀ (m j : Nat) (h1 : JH), j + m = E.1.length → RwF sc h h1 → (∀ (j' : Nat) (tb : Str × Tab), j' < j → E.1[j']? = some tb → RwE D h (jar h1 (jfr h 56 sc) j') ((rr[j']?).join) tb.2.2.1.length) →
    L_X6_take_2 D d Q (m + 1) sc (nI tn) (nI j) h1
  | m, j, h1, hjm, a, hr => by
    obtain ⟨⟨a1, a2⟩, ⟨b1, b2⟩, ⟨c1, c2⟩, ⟨e1, e2⟩, ⟨g1, g2⟩⟩ := s
    have k142 : jkd h (jfr h 56 sc) = 142 := hI.ref (F := 56) (by decide +kernel) g1
    have s0 : same h h1 sc := a.1 sc fun e => by rw [e] at a2; omega
    have k1 : jkd h (jfr h 47 sc) = 141 := hI.ref (F := 47) (by decide +kernel) c1
    have s1 : same h h1 (jfr h 47 sc) := a.1 _ fun e => by rw [e] at k1; omega
    have k6 := hI.k68 (F := 60) (by decide +kernel) e1
    have s6 : same h h1 (jfr h 60 sc) := a.1 _ fun e => by rw [e] at k6; omega
    have en : (3 : Int32) * nI tn + nI j = nI (3 * tn + j) := by rw [show (3 : Int32) = nI 3 from rfl, pk_mul, nI_add]
    refine ⟨a1, fun y => ?_, fun y => ?_⟩
    · rw [s0.fi, b1] at y
      have y := (nI_leI (by omega) (by omega)).mp y
      refine hQ h1 a fun j' tb hj => ?_
      have jl := (List.getElem?_eq_some_iff.mp hj).1
      rw [a.2.2.1 56]
      exact (hr j' tb (by omega) hj).rw a hI g1
    · rw [s0.fi, b1] at y
      have jl : j < E.1.length := Nat.lt_of_not_le fun z => y ((nI_leI (by omega) (by omega)).mpr z)
      obtain ⟨m', rfl⟩ : ∃ m', m = m' + 1 := ⟨m - 1, by omega⟩
      have hj : E.1[j]? = some E.1[j] := List.getElem?_eq_getElem jl
      generalize E.1[j] = tb at hj
      have kj := k j tb hj
      rw [en, s0.fr 60, ixn_nI (by omega), s6.ln, s6.ai]
      have jn : jin (nI (3 * tn + j)) (jln h (jfr h 60 sc)) := by rw [e2]; exact jin_nI (by omega) (by decide)
      have nx : ∀ v, RwE D h v ((rr[j]?).join) tb.2.2.1.length → W_X6_take_47 D d Q (L_X6_take_2 D d Q (m' + 1)) sc (nI tn) (nI j) (jfr h1 56 sc) (nI j) v h1 := fun v hv => by
        have e5 : jfr h1 56 sc = jfr h 56 sc := a.2.2.1 _ _
        refine ⟨by rw [e5]; exact g1, by rw [e5, a.2.2.2.2, g2]; exact jin_nI (by omega) (by decide), ?_⟩
        rintro h2 rfl
        rw [nI_1, ixn_nI (by omega)]
        refine w_takeL hI ⟨⟨a1, a2⟩, ⟨b1, b2⟩, ⟨c1, c2⟩, ⟨e1, e2⟩, ⟨g1, g2⟩⟩ k tl hd hQ m' (j + 1) _ (by omega) (a.tr RwF.put) ?_
        intro j' tb' hj' ht'
        rw [e5, jar_war]
        by_cases q : j' = j
        · subst q
          rw [if_pos ⟨rfl, rfl⟩]
          rw [hj] at ht'
          cases ht'
          exact hv
        · rw [if_neg (fun z => q z.2)]
          exact hr j' tb' (by omega) ht'
      refine ⟨e1, jn, fun y2 => ?_, fun y2 => nx 0 ?_⟩
      · cases hr' : (rr[j]?).join with
        | none =>
          rw [hr'] at kj
          exact absurd y2 (Int32.not_le.mpr kj)
        | some row =>
          rw [hr'] at kj
          obtain ⟨ri, r1, r2, ⟨⟨f1, f2⟩, ⟨f3, f4⟩, ⟨f5, f6⟩, f7⟩⟩ := kj
          rw [s0.fr, ixn_nI (by omega), s1.ln, s1.ar]
          have k3 : jkd h (jfr h 45 (jfr h 138 (jar h (jfr h 47 sc) j))) = 140 := hI.ref (F := 45) (by decide +kernel) f5
          have t1 : same h h1 (jfr h 45 (jfr h 138 (jar h (jfr h 47 sc) j))) := a.1 _ fun e => by rw [e] at k3; omega
          refine ⟨c1, by rw [c2]; exact jin_nI (by omega) (by decide), f1, ?_⟩
          rw [a.2.2.1, r2]
          refine ⟨f3, useR0 (w_row (D := D) f3 (by rw [a.2.2.1, t1.ln]; exact ⟨f5, f6⟩) r1 (by rw [a.2.2.1, t1.ar]; exact f7.1) hd) ?_⟩
          rintro v h2 hI2 _ ⟨rfl, he2⟩
          have he2 := he2.symm
          subst he2
          rw [a.2.2.1 45, t1.ar]
          exact nx _ (by rw [hr']; exact f7)
      · cases hr' : (rr[j]?).join with
        | none => rfl
        | some row =>
          rw [hr'] at kj
          obtain ⟨ri, r1, r2, _⟩ := kj
          rw [r2] at y2
          exact absurd (nI_pos' (by omega)) y2
theorem w_take {tn : Nat} {rr : TRow} (s : ScT h sc E) (k : TkR D h sc E rr tn) (tl : tn < 10000) (en : EnvR D h sc E R pv) (hd : 2 ≤ d) : cX6_take D d sc (nI tn) h (pV D h (fun h' => RwF sc h h' ∧ EnvR D h' sc E rr pv) no) := by
  obtain ⟨e, rfl, he⟩ := dsucc hd
  refine JW.inv fun hI => t_X6_take ⟨E.1.length + 1, w_takeL hI s k tl (by omega) ?_ _ 0 h (by omega) RwF.rf (fun _ _ z => absurd z (Nat.not_lt_zero _))⟩
  intro h' a hr
  refine endV fun _ _ => ⟨a, ?_⟩
  obtain ⟨⟨k1, k2⟩, ⟨k3, k4, k5, k6⟩, ⟨k7, k8, k9, k10⟩⟩ := en
  have k142 : jkd h (jfr h 56 sc) = 142 := hI.ref (F := 56) (by decide +kernel) k3
  have k50 : sbt (jkd h (jfr h 50 sc)) (ftg 50) = true := Or.resolve_left (hI.2.2.1 50 sc) k7
  have kk := ftg50 _ (sbt_lt k50) k50
  have s5 : same h h' (jfr h 50 sc) := a.1 _ fun e => by rw [e] at kk; exact kk.2.2.2.2.1 k142
  refine ⟨⟨k1, by rw [a.2.2.2.1]; exact k2⟩, ⟨by rw [a.2.2.1]; exact k3, by rw [a.2.2.1, a.2.2.2.2]; exact k4, k5, fun j tb hj => hr j tb hj⟩, ⟨by rw [a.2.2.1]; exact k7, by rw [a.2.2.1, s5.ln]; exact k8, by rw [a.2.2.1, s5.ln]; exact k9, fun j v hv => ?_⟩⟩
  rw [a.2.2.1, s5.ar]
  obtain ⟨c1, c2⟩ := k10 j v hv
  refine ⟨c1.of (a.1 _ fun e => ?_) (fun h0 => a.1 _ fun e => ?_), by rw [a.2.2.2.1]; exact c2⟩
  · rw [e] at c2; omega
  · have := (c1.1.2.2.2.2.resolve_left h0).1
    rw [e] at this; omega
end
