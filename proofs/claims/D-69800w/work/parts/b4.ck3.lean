/-! the component: the contract of check; parts one after the other -/
theorem Til.ord {A : List Nod} : ∀ {l : List Nat} {lo hi : Nat}, Til A lo l hi → ∀ (j k a b : Nat), j < k → l[j]? = some a → l[k]? = some b → a < ndL (nat_ A b)
  | [], _, _, _, j, k, a, b, _, h1, _ => by simp at h1
  | p :: l, lo, hi, h, j, k, a, b, hjk, h1, h2 => by
    obtain ⟨k', rfl⟩ : ∃ k', k = k' + 1 := ⟨k - 1, by omega⟩
    rw [List.getElem?_cons_succ] at h2
    cases j with
    | zero =>
      rw [List.getElem?_cons_zero] at h1
      cases h1
      have := ((Til.lt h.2.2).2 b (List.mem_of_getElem? h2)).2.1
      omega
    | succ j =>
      rw [List.getElem?_cons_succ] at h1
      exact Til.ord h.2.2 j k' a b (by omega) h1 h2
theorem mapM_snoc {α β : Type} {f : α → Ex β} {l : List α} {a : α} {xs : List β} (h : l.mapM f = .ok xs) : (l ++ [a]).mapM f = (f a).map fun y => xs ++ [y] := by
  rw [List.mapM_append, h]
  show ((do let y ← [a].mapM f; pure (xs ++ y)) : Ex (List β)) = _
  rw [List.mapM_cons, List.mapM_nil]
  cases f a <;> rfl
theorem mapM_len {α β : Type} {f : α → Ex β} : ∀ {l : List α} {xs : List β}, l.mapM f = .ok xs → xs.length = l.length
  | [], xs, h => by
    cases h; rfl
  | a :: l, xs, h => by
    rw [List.mapM_cons] at h
    cases ha : f a with
    | error c => rw [ha] at h; cases h
    | ok y =>
      rw [ha] at h
      have h : (l.mapM f >>= fun ys => pure (y :: ys)) = Except.ok xs := h
      cases hl : l.mapM f with
      | error c => rw [hl] at h; cases h
      | ok ys =>
        rw [hl] at h
        cases h
        rw [List.length_cons, List.length_cons, mapM_len hl]
theorem mapM_err {α β : Type} {f : α → Ex β} {l m : List α} {a : α} {xs : List β} {c : Str} (h : l.mapM f = .ok xs) (ha : f a = .error c) : (l ++ a :: m).mapM f = .error c := by
  rw [List.mapM_append, h]
  show ((do let y ← (a :: m).mapM f; pure (xs ++ y)) : Ex (List β)) = _
  rw [List.mapM_cons, ha]; rfl
section
variable {D : JD} {h h' h'' hm h0 : JH} {ρ : Nat → Nat} {A : List Nod} {E : TEnv} {d sc r x i n f : Nat} {M : Nat → Prop}
/-- the columns of the tree of i know their places -/
def PlT (A : List Nod) (E : TEnv) (h : JH) (ρ : Nat → Nat) : Nat → Nat → Prop
  | 0, _ => True
  | f + 1, i => (ndO (nat_ A i) = 2 → ∃ q, tFound E.1 (ndF (nat_ A i)) (ndS (nat_ A i)) = [q] ∧ jfi h 119 (ρ i) = nI q.1 ∧ jfi h 120 (ρ i) = nI q.2) ∧ ∀ p ∈ ndP (nat_ A i), PlT A E h ρ f p
theorem PlT.ck {a b : Nat} (hA : NOK A) (ri : RI ρ A.length) (c : CkF sc (NM A ρ a b) h h') : ∀ f i, i < A.length → (b ≤ ndL (nat_ A i) ∨ i < a) → PlT A E h ρ f i → PlT A E h' ρ f i
  | 0, _, _, _, _ => trivial
  | f + 1, i, hi, hd, k => by
    have nl := (hA i hi).1
    have til := (Til.lt (hA i hi).2.1).2
    refine ⟨fun e => ?_, fun p hp => PlT.ck hA ri c f p ?_ ?_ (k.2 p hp)⟩
    · obtain ⟨q, q1, q2, q3⟩ := k.1 e
      have nm : ¬ NM A ρ a b (ρ i) := fun ⟨j, j1, j2, j3, j4, _⟩ => by
        have := ri i j hi j3 j4
        omega
      refine ⟨q, q1, ?_, ?_⟩
      · rw [c.2.2.2.2.2 119 (ρ i) (fun z => absurd z (by decide)) fun _ => nm]; exact q2
      · rw [c.2.2.2.2.2 120 (ρ i) (fun z => absurd z (by decide)) fun _ => nm]; exact q3
    · have := (til p hp).1; omega
    · have := til p hp; omega
theorem PlT.ty9 {v : Nat} : ∀ f i, PlT A E h ρ f i → PlT A E (wfr h 109 r v) ρ f i
  | 0, _, _ => trivial
  | f + 1, i, k => ⟨k.1, fun p hp => PlT.ty9 f p (k.2 p hp)⟩
theorem CkF.tyOut {a b : Nat} (ri : RI ρ A.length) (c : CkF sc (NM A ρ a b) h h') (hi : i < A.length) (hd : b ≤ i ∨ i < a) : jfr h' 109 (ρ i) = jfr h 109 (ρ i) :=
  c.2.2.2.2.1 109 (ρ i) fun _ ⟨j, j1, j2, j3, j4, _⟩ => by
    have := ri i j hi j3 j4
    omega
/-- what comes of a check -/
def CkOk (D : JD) (A : List Nod) (E : TEnv) (ρ : Nat → Nat) (sc f i : Nat) (h : JH) (x : Ex Nat) (v : Nat) (h' : JH) : Prop :=
  ∃ t, x = .ok t ∧ v = tyc D t ∧ TyOk t ∧ jfr h' 109 (ρ i) = v ∧ CkF sc (NM A ρ (ndL (nat_ A i)) (i + 1)) h h' ∧ jfi h' 52 sc = jfi h 52 sc ∧ PlT A E h' ρ f i
def CkEr {α : Type} (A : List Nod) (ρ : Nat → Nat) (sc i : Nat) (h : JH) (x : Ex α) (y : Nat) (h' : JH) : Prop :=
  ∃ c hm, x = .error c ∧ CkF sc (NM A ρ (ndL (nat_ A i)) (i + 1)) h hm ∧ Flt hm h' y c
def CKX (D : JD) (A : List Nod) (E : TEnv) (ρ : Nat → Nat) (sc f : Nat) : Prop :=
  ∀ i wi h d n, i < f → i < A.length → HB A n i → n + 12 ≤ d → TreeR D h A ρ → ScC D h sc E → jfi h 52 sc = (if wi = true then 1 else 0) → v55_check D d (ρ i) sc h (pR D h 52 (CkOk D A E ρ sc f i h (tTree A E f wi i)) (CkEr A ρ sc i h (tTree A E f wi i)))
theorem tTree_eq (wi : Bool) : tTree A E (f + 1) wi i = ((ndP (nat_ A i)).mapM (tTree A E f (wi || (ndO (nat_ A i) == 3 && tGather (ndS (nat_ A i))))) >>= tNode E wi (nat_ A i)) := rfl
/-- one part -/
theorem w_ckPart {wi : Bool} {p : Nat} (hA : NOK A) (ri : RI ρ A.length) (IH : CKX D A E ρ sc f) (hi : i < f + 1) (il : i < A.length) (hb : HB A (n + 1) i) (hp : p ∈ ndP (nat_ A i)) (tr : TreeR D h A ρ) (sC : ScC D h sc E) (hw : jfi h 52 sc = (if wi = true then 1 else 0)) (hd : n + 12 ≤ d) :
    v55_check D d (ρ p) sc h (pR D h 52 (fun v h' => (∃ t, tTree A E f wi p = .ok t ∧ v = tyc D t ∧ TyOk t ∧ jfr h' 109 (ρ p) = v ∧ CkF sc (NM A ρ (ndL (nat_ A p)) (p + 1)) h h' ∧ jfi h' 52 sc = jfi h 52 sc ∧ PlT A E h' ρ f p) ∧ TreeR D h' A ρ ∧ ScC D h' sc E) (fun y h' => ∃ c hm, tTree A E f wi p = .error c ∧ CkF sc (NM A ρ (ndL (nat_ A i)) (i + 1)) h hm ∧ Flt hm h' y c)) := by
  have til := (Til.lt (hA i il).2.1).2 p hp
  have k := IH p wi h d n (by omega) (by omega) (hb p hp) hd tr sC hw
  have go : ∀ {M : JM} {pc : Nat} {ls : List (Option JV)} {st : List JV}, JW D d M pc ls st h (pR D h 52 (CkOk D A E ρ sc f p h (tTree A E f wi p)) (CkEr A ρ sc p h (tTree A E f wi p))) → JW D d M pc ls st h (pR D h 52 (fun v h' => (∃ t, tTree A E f wi p = .ok t ∧ v = tyc D t ∧ TyOk t ∧ jfr h' 109 (ρ p) = v ∧ CkF sc (NM A ρ (ndL (nat_ A p)) (p + 1)) h h' ∧ jfi h' 52 sc = jfi h 52 sc ∧ PlT A E h' ρ f p) ∧ TreeR D h' A ρ ∧ ScC D h' sc E) (fun y h' => ∃ c hm, tTree A E f wi p = .error c ∧ CkF sc (NM A ρ (ndL (nat_ A i)) (i + 1)) h hm ∧ Flt hm h' y c)) := fun z => by
    refine JW.inv fun hI => useR z ?_ ?_
    · rintro v h1 _ _ ⟨t, t1, t2, t3, t4, t5, t6, t7⟩
      exact ⟨⟨t, t1, t2, t3, t4, t5, t6, t7⟩, tr.ck ri hI t5 sC.1.2, sC.ck t5 tr.nd⟩
    · rintro y h1 _ _ ⟨c, hm, c1, c2, c3⟩
      exact ⟨c, hm, c1, c2.mono fun q hq => hq.mono (by omega) (by omega), c3⟩
  obtain ⟨a1, a2, a3, a4, a5, a6, a7, a8, a9, a10⟩ := k
  exact ⟨fun z => go (a1 z), fun z => go (a2 z), fun z => go (a3 z), fun z => go (a4 z), fun z => go (a5 z), fun z => go (a6 z), fun z => go (a7 z), fun z => go (a8 z), fun z => go (a9 z), fun z => go (a10 z)⟩
/-- virtual calls go as their methods do -/
theorem useCk {q : Nat} {K K' : Nat → JH → Prop} {X X' : Nat → JH → Prop} (k : v55_check D d q sc h (pR D h 52 K X)) (f1 : ∀ v h', JInv D h' → K v h' → K' v h') (f2 : ∀ y h', JInv D h' → X y h' → X' y h') : v55_check D d q sc h (pR D h 52 K' X') := by
  obtain ⟨a1, a2, a3, a4, a5, a6, a7, a8, a9, a10⟩ := k
  exact ⟨fun z => useR (a1 z) (fun v h' hI _ => f1 v h' hI) fun y h' hI _ => f2 y h' hI, fun z => useR (a2 z) (fun v h' hI _ => f1 v h' hI) fun y h' hI _ => f2 y h' hI, fun z => useR (a3 z) (fun v h' hI _ => f1 v h' hI) fun y h' hI _ => f2 y h' hI, fun z => useR (a4 z) (fun v h' hI _ => f1 v h' hI) fun y h' hI _ => f2 y h' hI, fun z => useR (a5 z) (fun v h' hI _ => f1 v h' hI) fun y h' hI _ => f2 y h' hI, fun z => useR (a6 z) (fun v h' hI _ => f1 v h' hI) fun y h' hI _ => f2 y h' hI, fun z => useR (a7 z) (fun v h' hI _ => f1 v h' hI) fun y h' hI _ => f2 y h' hI, fun z => useR (a8 z) (fun v h' hI _ => f1 v h' hI) fun y h' hI _ => f2 y h' hI, fun z => useR (a9 z) (fun v h' hI _ => f1 v h' hI) fun y h' hI _ => f2 y h' hI, fun z => useR (a10 z) (fun v h' hI _ => f1 v h' hI) fun y h' hI _ => f2 y h' hI⟩
/-- the first k parts have the types ts -/
def PtK (D : JD) (A : List Nod) (E : TEnv) (ρ : Nat → Nat) (sc f i : Nat) (h0 h : JH) (ps : List Nat) (ts : List Nat) : Prop :=
  CkF sc (NM A ρ (ndL (nat_ A i)) i) h0 h ∧ jfi h 52 sc = jfi h0 52 sc ∧ TreeR D h A ρ ∧ ScC D h sc E ∧ ts.length = ps.length ∧ (∀ (j p t : Nat), ps[j]? = some p → ts[j]? = some t → jfr h 109 (ρ p) = tyc D t ∧ TyOk t ∧ PlT A E h ρ f p)
theorem w_partsC {wi : Bool} {Q : JO → JH → Prop} {Lp : Nat → Int32 → JH → Prop} {END : JH → Prop} (hA : NOK A) (ri : RI ρ A.length) (IH : CKX D A E ρ sc f) (hi : i < f + 1) (il : i < A.length) (hb : HB A (n + 1) i) (hd : n + 12 ≤ d) (hw : jfi h0 52 sc = (if wi = true then 1 else 0)) (hl : (ndP (nat_ A i)).length ≤ 40)
    (hpt : ∀ h, TreeR D h A ρ → PtsR h ρ (ρ i) (ndP (nat_ A i)))
    (hL : ∀ g x h, (ρ i ≠ 0 ∧ ((jfi h 112 (ρ i) ≤ x → END h) ∧ (¬ jfi h 112 (ρ i) ≤ x → jfr h 111 (ρ i) ≠ 0 ∧ jin x (jln h (jfr h 111 (ρ i))) ∧ (jar h (jfr h 111 (ρ i)) (ixn x) ≠ 0 ∧ v55_check D d (jar h (jfr h 111 (ρ i)) (ixn x)) sc h (pR D h 52 (fun _ h' => Lp g (x + 1) h') (jth Q)))))) → Lp (g + 1) x h)
    (hEnd : ∀ h ts, JInv D h → (ndP (nat_ A i)).mapM (tTree A E f wi) = .ok ts → PtK D A E ρ sc f i h0 h (ndP (nat_ A i)) ts → END h)
    (hErr : ∀ y h' c hm, JInv D h' → (ndP (nat_ A i)).mapM (tTree A E f wi) = .error c → CkF sc (NM A ρ (ndL (nat_ A i)) (i + 1)) h0 hm → Flt hm h' y c → Q (.inr y) h') :
    ∀ g k ts h, (ndP (nat_ A i)).length < g + k → k ≤ (ndP (nat_ A i)).length → JInv D h → ((ndP (nat_ A i)).take k).mapM (tTree A E f wi) = .ok ts → PtK D A E ρ sc f i h0 h ((ndP (nat_ A i)).take k) ts → Lp g (nI k) h
  | 0, k, ts, h, h1, h2, _, _, _ => by exfalso; omega
  | g + 1, k, ts, h, h1, h2, hI, hm, P => by
    have pt := hpt h P.2.2.1
    obtain ⟨p1, p2, p3, p4, p5, p6⟩ := pt
    have nk := nkd_ex (nat_ A i)
    refine hL g (nI k) h ⟨(P.2.2.1 i il).1, fun z => ?_, fun z => ?_⟩
    · rw [p3, nI_leI (by omega) (by omega)] at z
      rw [List.take_of_length_le z] at hm P
      exact hEnd h ts hI hm P
    · rw [p3, nI_leI (by omega) (by omega)] at z
      have kl : k < (ndP (nat_ A i)).length := by omega
      have ek : (ndP (nat_ A i))[k]? = some (ndP (nat_ A i))[k] := List.getElem?_eq_getElem kl
      generalize (ndP (nat_ A i))[k] = p at ek
      have pm : p ∈ ndP (nat_ A i) := List.mem_of_getElem? ek
      have til := (Til.lt (hA i il).2.1).2 p pm
      have pl : p < A.length := by omega
      rw [ixn_nI (by omega), p6 k p ek]
      refine ⟨p1, jin_nI (by omega) (by omega), (P.2.2.1 p pl).1, useCk (w_ckPart (wi := wi) hA ri IH hi il hb pm P.2.2.1 P.2.2.2.1 (by rw [P.2.1]; exact hw) hd) ?_ ?_⟩
      · rintro v h1' hI1 ⟨⟨t, t1, t2, t3, t4, t5, t6, t7⟩, tr1, sc1⟩
        rw [nI_1]
        have tk : (ndP (nat_ A i)).take (k + 1) = (ndP (nat_ A i)).take k ++ [p] := by
          rw [List.take_succ, ek]; rfl
        refine w_partsC hA ri IH hi il hb hd hw hl hpt hL hEnd hErr g (k + 1) (ts ++ [t]) h1' (by omega) (by omega) hI1 ?_ ?_
        · rw [tk, mapM_snoc hm, t1]; rfl
        · rw [tk]
          obtain ⟨P1, P2, P3, P4, P5, P6⟩ := P
          have lk : ((ndP (nat_ A i)).take k).length = k := by rw [List.length_take]; omega
          refine ⟨P1.tr (t5.mono fun q hq => hq.mono (by omega) (by omega)), by rw [t6]; exact P2, tr1, sc1, by simp [P5], fun j p' t' hj ht => ?_⟩
          rcases get_snoc hj with ⟨e, rfl⟩ | ⟨e, g1⟩
          · rw [e, ← P5, List.getElem?_append_right (Nat.le_refl _), Nat.sub_self] at ht
            cases ht
            exact ⟨by rw [t4]; exact t2, t3, t7⟩
          · have jl : j < k := by
              have := (List.getElem?_eq_some_iff.mp g1).1
              omega
            rw [List.getElem?_append_left (by omega)] at ht
            have b := P6 j p' t' g1 ht
            have gj : (ndP (nat_ A i))[j]? = some p' := by
              rw [List.getElem?_take, if_pos jl] at g1
              exact g1
            have pm' : p' ∈ ndP (nat_ A i) := List.mem_of_getElem? gj
            have til' := (Til.lt (hA i il).2.1).2 p' pm'
            have ord := Til.ord (hA i il).2.1 j k p' p jl gj ek
            refine ⟨?_, b.2.1, PlT.ck hA ri t5 f p' (by omega) (Or.inr ord) b.2.2⟩
            rw [t5.tyOut ri (by omega) (Or.inr ord)]; exact b.1
      · rintro y h1' hI1 ⟨c, hm1, c1, c2, c3⟩
        refine hErr y h1' c hm1 hI1 ?_ ((P.1.mono fun q hq => hq.mono (Nat.le_refl _) (by omega)).tr c2) c3
        have sp : ndP (nat_ A i) = (ndP (nat_ A i)).take k ++ p :: (ndP (nat_ A i)).drop (k + 1) := by
          conv => lhs; rw [← List.take_append_drop k (ndP (nat_ A i))]
          congr 1
          rw [List.drop_eq_getElem_cons kl]
          rw [List.getElem?_eq_getElem kl] at ek
          cases ek
          rfl
        rw [sp]
        exact mapM_err hm c1
end
