/-! the component: the contract of at; literals, parameters, columns -/
section
variable {D : JD} {h h' h'' hm h0 h2 h3 : JH} {ρ : Nat → Nat} {A : List Nod} {E Ec : TEnv} {d sc r x i n f c q lo hi t : Nat} {M : Nat → Prop} {pv : List Val} {grp : List TRow} {R : TRow} {G : TRow → JH → Prop} {wi : Bool}
/-- what holds of trees, types and parameters throughout -/
def EvC (A : List Nod) (E Ec : TEnv) (ρ : Nat → Nat) (pv : List Val) (grp : List TRow) : Prop := NOK A ∧ RI ρ A.length ∧ Ec.1 = E.1 ∧ PvOk Ec pv ∧ (∀ r ∈ grp, RowOk Ec r) ∧ pv.length = Ec.2.1.length
/-- what holds of the heap -/
def EvI (D : JD) (A : List Nod) (E Ec : TEnv) (ρ : Nat → Nat) (sc : Nat) (pv : List Val) (G : TRow → JH → Prop) (R : TRow) (h : JH) : Prop := TreeR D h A ρ ∧ OW h ∧ EnvR D h sc E R pv ∧ G R h ∧ RowOk Ec R
/-- the group stays -/
def EvG (D : JD) (A : List Nod) (ρ : Nat → Nat) (sc : Nat) (G : TRow → JH → Prop) : Prop := ∀ R h h' lo hi, JInv D h → TreeR D h A ρ → OW h → jfr h 56 sc ≠ 0 → G R h → EvF D sc (EM h A ρ lo hi) h h' → G R h'
theorem EvI.go (S : EvI D A E Ec ρ sc pv G R h) (hI : JInv D h) (ri : RI ρ A.length) (hG : EvG D A ρ sc G) (a : EvF D sc (EM h A ρ lo hi) h h') (en : EnvR D h' sc E R pv) : EvI D A E Ec ρ sc pv G R h' :=
  ⟨S.1.ev S.2.1 ri hI a S.2.2.1.2.1.1, a.2.2.1 S.2.1, en, hG R h h' lo hi hI S.1 S.2.1 S.2.2.1.2.1.1 S.2.2.2.1 a, S.2.2.2.2⟩
theorem EvF.up {lo' hi' : Nat} (a : EvF D sc (EM h A ρ lo hi) h h') (S : EvI D A E Ec ρ sc pv G R h) (hI : JInv D h) (h1 : lo' ≤ lo) (h2 : hi ≤ hi') : EvF D sc (EM h A ρ lo' hi') h h' :=
  a.mono (fun q hq => hq.mono h1 h2) fun c hc hn => a.keep hI S.2.1 (fun c hc => (S.1.emW hI hc).1) S.2.2.1.2.1.1 (S.1.emW hI hc).1 hn
theorem EvF.em' (a : EvF D sc M h h') : EM h' A ρ lo hi = EM h A ρ lo hi := funext fun _ => propext a.em
def EvOk (D : JD) (A : List Nod) (E : TEnv) (ρ : Nat → Nat) (sc : Nat) (pv : List Val) (i : Nat) (R : TRow) (h : JH) (x : Ex Val) (v : Nat) (h' : JH) : Prop :=
  ∃ w, x = .ok w ∧ Cel D h' v w ∧ (v = jfr h 108 (ρ i) ∨ jkd h' v = 96 ∨ jkd h' v = 97 ∨ jkd h' v = 102) ∧ EvF D sc (EM h A ρ (ndL (nat_ A i)) (i + 1)) h h' ∧ EnvR D h' sc E R pv
def EvEr (D : JD) (A : List Nod) (ρ : Nat → Nat) (sc i : Nat) (h : JH) (x : Ex Val) (y : Nat) (h' : JH) : Prop := ∃ c hm, x = .error c ∧ EvF D sc (EM h A ρ (ndL (nat_ A i)) (i + 1)) h hm ∧ Flt hm h' y c
def EVX (D : JD) (A : List Nod) (E Ec : TEnv) (ρ : Nat → Nat) (sc : Nat) (pv : List Val) (grp : List TRow) (G : TRow → JH → Prop) (f : Nat) : Prop :=
  ∀ i R h d n t wi, i < f → i < A.length → HB A n i → 2 * n + 20 ≤ d → EvI D A E Ec ρ sc pv G R h → PlT A E h ρ f i → tTree A Ec f wi i = .ok t → v55_at D d (ρ i) sc h (pR D h 8 (EvOk D A E ρ sc pv i R h (eTree A E pv grp f R i)) (EvEr D A ρ sc i h (eTree A E pv grp f R i)))
/-- virtual calls go as their methods do -/
theorem useAt {q : Nat} {K K' : Nat → JH → Prop} {X X' : Nat → JH → Prop} (k : v55_at D d q sc h (pR D h 8 K X)) (f1 : ∀ v h', JInv D h → JInv D h' → K v h' → K' v h') (f2 : ∀ y h', JInv D h → JInv D h' → X y h' → X' y h') : v55_at D d q sc h (pR D h 8 K' X') := by
  have go : ∀ {M : JM} {pc : Nat} {ls : List (Option JV)} {st : List JV}, JW D d M pc ls st h (pR D h 8 K X) → JW D d M pc ls st h (pR D h 8 K' X') := fun z => JW.inv fun hI => useR z (fun v h' hI' _ => f1 v h' hI hI') fun y h' hI' _ => f2 y h' hI hI'
  obtain ⟨a1, a2, a3, a4, a5, a6, a7, a8, a9, a10⟩ := k
  exact ⟨fun z => go (a1 z), fun z => go (a2 z), fun z => go (a3 z), fun z => go (a4 z), fun z => go (a5 z), fun z => go (a6 z), fun z => go (a7 z), fun z => go (a8 z), fun z => go (a9 z), fun z => go (a10 z)⟩
/-- what one part gives -/
def EvP (D : JD) (A : List Nod) (E Ec : TEnv) (ρ : Nat → Nat) (sc : Nat) (pv : List Val) (G : TRow → JH → Prop) (R : TRow) (h : JH) (p t : Nat) (x : Ex Val) (v : Nat) (h' : JH) : Prop :=
  ∃ w, x = .ok w ∧ Cel D h' v w ∧ VT t w ∧ (v = jfr h 108 (ρ p) ∨ jkd h' v = 96 ∨ jkd h' v = 97 ∨ jkd h' v = 102) ∧ EvF D sc (EM h A ρ (ndL (nat_ A p)) (p + 1)) h h' ∧ EvI D A E Ec ρ sc pv G R h' ∧ ∀ f' j, j < A.length → PlT A E h ρ f' j → PlT A E h' ρ f' j
theorem w_evPart {p : Nat} (C : EvC A E Ec ρ pv grp) (hG : EvG D A ρ sc G) (IH : EVX D A E Ec ρ sc pv grp G f) (hi : i < f + 1) (il : i < A.length) (hb : HB A (n + 1) i) (hp : p ∈ ndP (nat_ A i)) (S : EvI D A E Ec ρ sc pv G R h) (pl : PlT A E h ρ f p) (ht : tTree A Ec f wi p = .ok t) (hd : 2 * n + 20 ≤ d) :
    v55_at D d (ρ p) sc h (pR D h 8 (EvP D A E Ec ρ sc pv G R h p t (eTree A E pv grp f R p)) (fun y h' => ∃ c hm, eTree A E pv grp f R p = .error c ∧ EvF D sc (EM h A ρ (ndL (nat_ A i)) (i + 1)) h hm ∧ Flt hm h' y c)) := by
  obtain ⟨hA, ri, e1, hpv, hgr, _⟩ := C
  have til := (Til.lt (hA i il).2.1).2 p hp
  refine useAt (IH p R h d n t wi (by omega) (by omega) (hb p hp) hd S pl ht) ?_ ?_
  · rintro v h1 hI hI1 ⟨w, w1, w2, w3, w4, w5⟩
    exact ⟨w, w1, w2, snd_tree hA e1 hpv hgr f wi p R t w (by omega) S.2.2.2.2 ht w1, w3, w4, S.go hI ri hG w4 w5, fun f' j jl z => PlT.ev S.1 hI w4 (fun c hc => (S.1.emW hI hc).1) S.2.2.1.2.1.1 hA f' j jl z⟩
  · rintro y h1 hI hI1 ⟨c, hm, c1, c2, c3⟩
    exact ⟨c, hm, c1, c2.up S hI (by omega) (by omega), c3⟩
/-- the node's own cell is written -/
theorem EvI.own (S : EvI D A E Ec ρ sc pv G R h) (hI : JInv D h) (hI' : JInv D h') (hf : CelF h h' (jfr h 108 (ρ i))) (hw : CelW D h' (jfr h 108 (ρ i))) (hle : jle h h') (il : i < A.length) (o : ndO (nat_ A i) ≠ 0) (hl : lo ≤ i) : EvF D sc (EM h A ρ lo (i + 1)) h h' ∧ EnvR D h' sc E R pv := by
  have h56 := S.2.2.1.2.1.1
  have k142 : jkd h (jfr h 56 sc) = 142 := hI.ref (F := 56) (by decide +kernel) h56
  have mc : EM h A ρ lo (i + 1) (jfr h 108 (ρ i)) := ⟨i, hl, Nat.lt_succ_self _, il, o, Or.inl rfl⟩
  have cw := (S.1 i il).2.2.1
  have k98 : jkd h (jfr h 108 (ρ i)) = 98 := hI.ref (F := 108) (by decide +kernel) cw.1
  have a := hf.ev (sc := sc) hI hI' S.2.1 mc (fun c hc => (S.1.emW hI hc).1) (by omega) hw hle h56
  refine ⟨a, S.2.2.1.ev a hI S.2.1 (fun c hc => S.1.emW hI hc) fun j => (hf.1 _ hI.refl ?_).ar j⟩
  rintro (z | z)
  · rw [z] at k142; omega
  · rcases cw.2.2.2.2 with w | w
    · rw [w] at z; exact h56 z
    · rw [← z, k142] at w; omega
theorem ev_lit (C : EvC A E Ec ρ pv grp) (il : i < A.length) (o : ndO (nat_ A i) = 0) (S : EvI D A E Ec ρ sc pv G R h) (hd : 1 ≤ d) :
    cX31_at D d (ρ i) sc h (pR D h 8 (EvOk D A E ρ sc pv i R h (eTree A E pv grp (f + 1) R i)) (EvEr D A ρ sc i h (eTree A E pv grp (f + 1) R i))) := by
  obtain ⟨e, rfl, he⟩ := dsucc hd
  have nr := S.1 i il
  exact t_X31_at ⟨nr.1, endR fun _ _ _ => ⟨_, eT_0 o, (nr.2.2.2.1 o).2, Or.inl rfl, EvF.rf, S.2.2.1⟩⟩
theorem ev_par (C : EvC A E Ec ρ pv grp) (il : i < A.length) (o : ndO (nat_ A i) = 1) (S : EvI D A E Ec ρ sc pv G R h) (ht : tTree A Ec (f + 1) wi i = .ok t) (hd : 1 ≤ d) :
    cX25_at D d (ρ i) sc h (pR D h 8 (EvOk D A E ρ sc pv i R h (eTree A E pv grp (f + 1) R i)) (EvEr D A ρ sc i h (eTree A E pv grp (f + 1) R i))) := by
  obtain ⟨e, rfl, he⟩ := dsucc hd
  obtain ⟨hA, ri, e1, hpv, hgr, pl⟩ := C
  have nr := S.1 i il
  have sh := (hA i il).2.2.1
  have f1 := nr.2.2.2.2.1 o
  have k8 := sh.par o
  obtain ⟨⟨s1, s2⟩, s3, ⟨s4, s5, s6, s7⟩⟩ := S.2.2.1
  have kl : ndK (nat_ A i) < pv.length := by
    rw [tTree_nil (sh.nil (Or.inr (Or.inl o)))] at ht
    unfold tNode at ht
    rw [o] at ht
    have ht : (match Ec.2.1[ndK (nat_ A i)]? with
      | some t => .ok t
      | none => xErr "42P02") = (Except.ok t : Ex Nat) := ht
    cases hk : Ec.2.1[ndK (nat_ A i)]? with
    | none => rw [hk] at ht; cases ht
    | some t' =>
      rw [pl]
      exact (List.getElem?_eq_some_iff.mp hk).1
  have ek : pv[ndK (nat_ A i)]? = some pv[ndK (nat_ A i)] := List.getElem?_eq_getElem kl
  have sk := s7 _ _ ek
  have e2 : nI (ndK (nat_ A i) + 1) - 1 = nI (ndK (nat_ A i)) := by rw [← nI_1, Int32.add_sub_cancel]
  refine t_X25_at ⟨s1, nr.1, s4, ?_⟩
  rw [f1, e2, ixn_nI (by omega)]
  refine ⟨jin_nI (by omega) (by omega), endR fun _ _ _ => ⟨pv[ndK (nat_ A i)], ?_, sk.1, Or.inr (Or.inr (Or.inr sk.2)), EvF.rf, S.2.2.1⟩⟩
  rw [eT_1 o, List.getD_eq_getElem?_getD, ek]; rfl
theorem ev_col (C : EvC A E Ec ρ pv grp) (il : i < A.length) (o : ndO (nat_ A i) = 2) (S : EvI D A E Ec ρ sc pv G R h) (pl : PlT A E h ρ (f + 1) i) (hd : 2 ≤ d) :
    cX30_at D d (ρ i) sc h (pR D h 8 (EvOk D A E ρ sc pv i R h (eTree A E pv grp (f + 1) R i)) (EvEr D A ρ sc i h (eTree A E pv grp (f + 1) R i))) := by
  obtain ⟨e, rfl, he⟩ := dsucc hd
  obtain ⟨hA, ri, e1, hpv, hgr, _⟩ := C
  have nr := S.1 i il
  obtain ⟨q, q1, q2, q3⟩ := pl.1 o
  obtain ⟨tb, b1, b2⟩ := fnd_mem (q := q) (by rw [q1]; exact List.mem_singleton.mpr rfl)
  have cl := tColOf_lt b2
  obtain ⟨⟨s1, s2⟩, ⟨s3, s4, s5, s6⟩, s7⟩ := S.2.2.1
  have ql : q.1 < E.1.length := (List.getElem?_eq_some_iff.mp b1).1
  have rw' := s6 q.1 tb b1
  have eq : eTree A E pv grp (f + 1) R i = .ok ((((R[q.1]?).join).map fun r => r.getD q.2 vNull).getD vNull) := by rw [eT_2 o, q1]
  refine JW.inv fun hI => t_X30_at ⟨s1, nr.1, s3, ?_⟩
  rw [q2, q3, ixn_nI (by omega)]
  refine ⟨by rw [s4]; exact jin_nI (by omega) (by decide), fun z => ?_, fun z => ?_⟩
  · cases hr : (R[q.1]?).join with
    | none => rw [hr] at rw'; exact absurd rw' z
    | some row =>
      rw [hr] at rw' eq
      obtain ⟨r1, r2, r3, r4, r5⟩ := rw'
      have cc := r5 q.2 cl
      rw [ixn_nI (by omega)]
      refine ⟨jin_nI (by omega) (by omega), endR fun _ _ _ => ⟨_, eq, cc.1, ?_, EvF.rf, S.2.2.1⟩⟩
      exact Or.inr (Or.inl cc.2)
  · cases hr : (R[q.1]?).join with
    | some row => rw [hr] at rw'; exact absurd z rw'.1
    | none =>
      rw [hr] at eq
      refine ⟨nr.2.2.1.1, JW.up (n := 1) (fun y => useR (k_cNone (d := y) nr.2.2.1) ?_ (fun _ _ _ _ z => z.elim)) he⟩
      rintro v h1 hI1 hle ⟨rfl, c1, c2⟩
      obtain ⟨a, en⟩ := S.own hI hI1 c2 c1.1 hle il (by omega) (hA i il).1
      exact endR fun _ _ _ => ⟨_, eq, c1, Or.inl rfl, a, en⟩
end
