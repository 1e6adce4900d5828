/-! the component: rows to work with are written -/
section
variable {D : JD} {h h' h'' h0 h1 h2 : JH} {ρ : Nat → Nat} {A : List Nod} {E : TEnv} {K K' : Nat → Bool} {q c t u r B e sc b i j k v n d : Nat} {M : Nat → Prop} {tb tb' : Tab} {T T' S : List Tab} {pv : List Val} {pt : List Nat} {ra rb : Int} {y : Stm} {x : Val}
theorem wkS_w : ∀ k, wK k = true → wkS k = true := fun k e => by
  unfold wK at e
  simp only [Bool.or_eq_true, Nat.beq_eq] at e
  rcases e with e | e | e | e | e <;> rw [e] <;> rfl
theorem wK_w : ∀ k, wK k = true → wkd k = true ∧ k ≠ 12 ∧ k ≠ 98 ∧ k ≠ 99 ∧ k ≠ 144 := fun k e => by
  unfold wK at e
  simp only [Bool.or_eq_true, Nat.beq_eq] at e
  rcases e with e | e | e | e | e <;> rw [e] <;> decide
theorem ktb_w : KTb wK := ⟨⟨rfl, rfl, rfl, rfl, rfl⟩, ⟨rfl, rfl, rfl⟩, ⟨rfl, rfl⟩, ⟨rfl, rfl, rfl, rfl⟩⟩
theorem EnK.kinds (k : EnK D h e) (hI : JInv D h) : jkd h (jfr h 29 e) = 133 ∧ jkd h (jfr h 30 e) = 134 ∧ jkd h (jfr h 31 e) = 135 := ⟨hI.ref (F := 29) (by decide +kernel) k.1.1.1, hI.ref (F := 30) (by decide +kernel) k.2.1.1.1, hI.ref (F := 31) (by decide +kernel) k.2.2.1.1⟩
/-- rows to copy from have changed -/
theorem WkS.scr (W : WkS D A ρ e sc T S pv ra rb h h1) (hA : NOK A) (hI1 : JInv D h1) (a : WF D (jfr h1 31 e) 100 10 h1 h2) : WkS D A ρ e sc T S pv ra rb h h2 := by
  obtain ⟨w1, w2, w3, w4, w5, w6, w7, w8, w9, w10⟩ := W
  have ot := w4.2.2.2.2.1
  have ks : KS wK h1 h2 := a.1.ks hI1 ⟨rfl, rfl, rfl, rfl⟩
  have sf : SF D h1 h2 := a.1.sf hI1 wK_w
  obtain ⟨e2, s⟩ := w4.ks ks hI1 ktb_w rfl (a.2.2.1 ot)
  have en := w4.nbks ks hI1 ktb_w s
  have k142 : jkd h1 (jfr h1 56 sc) = 142 := hI1.ref (F := 56) (by decide +kernel) w5.2.1.1
  have l56 : jln h2 (jfr h1 56 sc) = jln h1 (jfr h1 56 sc) := (ks.obj hI1 (by rw [k142]; decide) (by rw [k142]; decide) (by rw [k142]; rfl)).ln
  obtain ⟨q1, q2, q3⟩ := w10.kinds hI1
  have s1 := a.2.1 (jfr h1 29 e) 301 8 (fun z => by rw [z, q3] at q1; cases q1) w10.1
  have s2 := a.2.1 (jfr h1 30 e) 300 24 (fun z => by rw [z, q3] at q2; cases q2) w10.2.1
  have n1 : nz h2 (jfr h2 29 e) 301 = nz h1 (jfr h1 29 e) 301 := by rw [s.fr]; exact nz_same fun j _ => s1.1.ar j
  have n2 : nz h2 (jfr h2 30 e) 300 = nz h1 (jfr h1 30 e) 300 := by rw [s.fr]; exact nz_same fun j _ => s2.1.ar j
  refine ⟨w1.tr (ks.mono wkS_w), w2.tr sf hI1, w3.sf sf hA hI1, e2, w5.ks ks hI1 rfl ⟨rfl, rfl⟩ ⟨rfl, rfl⟩ l56, fun F => (s.fr F).trans (w6 F), ?_, fun j => (w4.tbks ks hI1 ktb_w s).trans (w8 j), fun q hq => ?_, ?_⟩
  · have := w7.tr a.2.2.2.2
    unfold pO pS at this ⊢
    rw [n1, n2, en, s.fr 31]
    exact this.mono (by omega) (by omega)
  · have k31 : jkd h1 q = 31 := (w1.2.2.1 q (by rw [hq]; decide)).trans hq
    rw [(ks.obj hI1 (by rw [k31]; decide) (by rw [k31]; decide) (by rw [k31]; rfl)).fr]
    exact w9 q hq
  · unfold EnK
    rw [s.fr, s.fr, s.fr]
    exact ⟨w10.1.of s1, w10.2.1.of s2, a.2.2.2.1 w10.2.2⟩
/-- the rows f stand among the rows to copy from -/
def ScR (D : JD) (h : JH) (e : Nat) (f : Nat → Option (List Val)) : Prop := ∀ (j : Nat) (r : List Val), f j = some r → j < 100 ∧ jar h (jfr h 31 e) j ≠ 0 ∧ r.length ≤ 10 ∧ ∀ i, i < r.length → Cel D h (jar h (jar h (jfr h 31 e) j) i) (r.getD i vNull)
theorem ScR.ks {f : Nat → Option (List Val)} (k : ScR D h e f) (ek : EnK D h e) (a : KS K h h') (hI : JInv D h) (kk : KWk K) (s : jfr h' 31 e = jfr h 31 e) : ScR D h' e f := fun j r hr => by
  obtain ⟨k1, k2, k3, k4⟩ := k j r hr
  obtain ⟨s1, s2⟩ := ek.2.2.was a hI kk
  obtain ⟨t1, t2⟩ := s2 j k1 k2
  refine ⟨k1, by rw [s, s1.ar]; exact k2, k3, fun i hi => ?_⟩
  rw [s, s1.ar, t1.ar]
  exact (k4 i hi).of (t2 i (by omega)).1 (t2 i (by omega)).2
/-- a row to copy from -/
theorem w_scr (W : WkS D A ρ e sc T S pv ra rb h h1) (hA : NOK A) (hj : j < 100) (hd : 3 ≤ d) :
    cX3_scratch D d e (nI j) h1 (pR D h1 76 (fun v h' => v = jar h' (jfr h1 31 e) j ∧ v ≠ 0 ∧ WkS D A ρ e sc T S pv ra rb h h' ∧ (∀ f, ScR D h1 e f → ScR D h' e f) ∧ KF wK h1 h' ∧ jfr h' 31 e = jfr h1 31 e) no) := by
  obtain ⟨d, rfl, he⟩ := dsucc (show 1 ≤ d by omega)
  have w4 := W.2.2.2.1
  have ek := W.2.2.2.2.2.2.2.2.2
  refine JW.inv fun hI1 => t_X3_scratch ⟨w4.1.1, useR0 (w_cells ek.2.2 w4.2.2.2.2.1 w4.2.2.2.2.2 hj (by decide) (by decide) (by omega)) ?_⟩
  rintro v h2 hI2 _ ⟨e1, e2, wf, raf⟩
  have W2 := W.scr hA hI1 wf
  have ks : KS wK h1 h2 := wf.1.ks hI1 ⟨rfl, rfl, rfl, rfl⟩
  have se : same h1 h2 e := wf.1.obj hI1 (by rw [w4.1.2]; decide) (by rw [w4.1.2]; decide) (by rw [w4.1.2]; rfl)
  refine endR fun _ _ _ => ⟨e1, e2, W2, fun f sr j' r hr => ?_, wf.1, se.fr 31⟩
  obtain ⟨k1, k2, k3, k4⟩ := sr j' r hr
  have ea : jar h2 (jfr h1 31 e) j' = jar h1 (jfr h1 31 e) j' := raf.2 j' (by
    by_cases z : j' = j
    · exact Or.inr (by rw [← z]; exact k2)
    · exact Or.inl z)
  have ru := (ek.2.2.2.2 j' k1).resolve_left k2
  obtain ⟨_, _, q3⟩ := ek.kinds hI1
  have ne : jar h1 (jfr h1 31 e) j' ≠ jfr h1 31 e := fun z => by
    have := ru.2.1
    rw [z, q3] at this
    cases this
  have sr' := raf.1 _ hI1.arl ne
  refine ⟨k1, by rw [se.fr, ea]; exact k2, k3, fun i hi => ?_⟩
  rw [se.fr, ea, sr'.ar]
  have cu := ru.2.2.2 i (by omega)
  have cl := cu.1.lt hI1
  refine (k4 i hi).of (raf.1 _ cl.1 fun z => ?_) fun h0 => raf.1 _ cl.2 fun z => ?_
  · have := cu.2
    rw [z, q3] at this
    cases this
  · have := (cu.1.2.2.2.2.resolve_left h0).1
    rw [z, q3] at this
    cases this
/-- a value is laid into a row to copy from -/
theorem WkS.put (W : WkS D A ρ e sc T S pv ra rb h h1) (hA : NOK A) (hI1 : JInv D h1) (hI2 : JInv D h2) (hle : jle h1 h2) (hj : j < 100) (hi : i < 10) (hr : jar h1 (jfr h1 31 e) j ≠ 0) (hf : CelF h1 h2 (jar h1 (jar h1 (jfr h1 31 e) j) i)) (hw : Cel D h2 (jar h1 (jar h1 (jfr h1 31 e) j) i) x) :
    WkS D A ρ e sc T S pv ra rb h h2 ∧ jfr h2 31 e = jfr h1 31 e ∧ jar h2 (jfr h1 31 e) j = jar h1 (jfr h1 31 e) j ∧ KF wK h1 h2 ∧ ∀ (f : Nat → Option (List Val)) (r2 : List Val), (∀ (j' : Nat) (r : List Val), j' ≠ j → f j' = some r → j' < 100 ∧ jar h1 (jfr h1 31 e) j' ≠ 0 ∧ r.length ≤ 10 ∧ ∀ i, i < r.length → Cel D h1 (jar h1 (jar h1 (jfr h1 31 e) j') i) (r.getD i vNull)) → r2.length ≤ 10 → (∀ i2, i2 < r2.length → i2 ≠ i → Cel D h1 (jar h1 (jar h1 (jfr h1 31 e) j) i2) (r2.getD i2 vNull)) → (i < r2.length → r2.getD i vNull = x) → ScR D h2 e (fun j' => if j' = j then some r2 else f j') := by
  have w4 := W.2.2.2.1
  have ek := W.2.2.2.2.2.2.2.2.2
  have ow := w4.2.2.2.2.2
  have ot := w4.2.2.2.2.1
  obtain ⟨wf, sm⟩ := WF.cel hI1 hI2 hle ow ot ek.2.2 hj hi hr hf hw.1
  have W2 := W.scr hA hI1 wf
  have se : same h1 h2 e := wf.1.obj hI1 (by rw [w4.1.2]; decide) (by rw [w4.1.2]; decide) (by rw [w4.1.2]; rfl)
  obtain ⟨_, _, q3⟩ := ek.kinds hI1
  have sA : same h1 h2 (jfr h1 31 e) := sm _ hI1.refl (by rw [q3]; decide) (by rw [q3]; decide) (by rw [q3]; decide)
  refine ⟨W2, se.fr 31, sA.ar j, wf.1, fun f r2 sr l10 H1 H2 j' r' hr' => ?_⟩
  have ru0 := (ek.2.2.2.2 j hj).resolve_left hr
  have cu0 := ru0.2.2.2 i hi
  have oth : ∀ j2 i2, j2 < 100 → i2 < 10 → jar h1 (jfr h1 31 e) j2 ≠ 0 → (j2 ≠ j ∨ i2 ≠ i) → jar h1 (jar h1 (jfr h1 31 e) j2) i2 ≠ jar h1 (jar h1 (jfr h1 31 e) j) i := fun j2 i2 h2a h2b h2c h2d z => by
    have ru := (ek.2.2.2.2 j2 h2a).resolve_left h2c
    have cu := ru.2.2.2 i2 h2b
    have o1 := ot.1 _ _ _ _ (by rw [ru.2.1]; rfl) (by rw [ru0.2.1]; rfl) z cu.1.1
    have o2 := ot.1 _ _ _ _ (by rw [q3]; rfl) (by rw [q3]; rfl) o1.1 h2c
    omega
  have go : ∀ j2 (r2 : List Val), j2 < 100 → jar h1 (jfr h1 31 e) j2 ≠ 0 → r2.length ≤ 10 → (∀ i2, i2 < r2.length → (j2 ≠ j ∨ i2 ≠ i) → Cel D h1 (jar h1 (jar h1 (jfr h1 31 e) j2) i2) (r2.getD i2 vNull)) → (j2 = j → i < r2.length → r2.getD i vNull = x) → j2 < 100 ∧ jar h2 (jfr h2 31 e) j2 ≠ 0 ∧ r2.length ≤ 10 ∧ ∀ i2, i2 < r2.length → Cel D h2 (jar h2 (jar h2 (jfr h2 31 e) j2) i2) (r2.getD i2 vNull) := fun j2 r2 h2a h2c h2e H1 H2 => by
    have ru := (ek.2.2.2.2 j2 h2a).resolve_left h2c
    have sR : same h1 h2 (jar h1 (jfr h1 31 e) j2) := sm _ hI1.arl (by rw [ru.2.1]; decide) (by rw [ru.2.1]; decide) (by rw [ru.2.1]; decide)
    refine ⟨h2a, by rw [se.fr, sA.ar]; exact h2c, h2e, fun i2 hi2 => ?_⟩
    rw [se.fr, sA.ar, sR.ar]
    by_cases z : j2 ≠ j ∨ i2 ≠ i
    · have cu := ru.2.2.2 i2 (by omega)
      exact (H1 i2 hi2 z).other hI1 ow.tx hf (oth j2 i2 h2a (by omega) h2c z) cu0.1
    · have z1 : j2 = j := by omega
      have z2 : i2 = i := by omega
      subst z1 z2
      rw [H2 rfl hi2]
      exact hw
  by_cases z : j' = j
  · have hr' : (if j' = j then some r2 else f j') = some r' := hr'
    rw [if_pos z] at hr'
    cases hr'
    subst z
    exact go j' r2 hj hr l10 (fun i2 hi2 hd2 => H1 i2 hi2 (by omega)) (fun _ hil => H2 hil)
  · have hr' : (if j' = j then some r2 else f j') = some r' := hr'
    rw [if_neg z] at hr'
    obtain ⟨k1, k2, k3, k4⟩ := sr j' r' z hr'
    exact go j' r' k1 k2 k3 (fun i2 hi2 _ => k4 i2 hi2) (fun w => absurd w z)
def upF (f : Nat → Option (List Val)) (j : Nat) (r : List Val) : Nat → Option (List Val) := fun j' => if j' = j then some r else f j'
theorem upd_eq {f : Nat → Option (List Val)} {r : List Val} : upF f j r j = some r := if_pos rfl
theorem upd_upd {f : Nat → Option (List Val)} {r r' : List Val} : upF (upF f j r) j r' = upF f j r' := by
  funext j'
  unfold upF
  by_cases z : j' = j
  · rw [if_pos z, if_pos z]
  · rw [if_neg z, if_neg z, if_neg z]
/-- a row that is still to be filled -/
theorem ScR.nil {f : Nat → Option (List Val)} (k : ScR D h e f) (hj : j < 100) (hr : jar h (jfr h 31 e) j ≠ 0) : ScR D h e (upF f j []) := fun j' r hr' => by
  by_cases z : j' = j
  · have hr' : (if j' = j then some [] else f j') = some r := hr'
    rw [if_pos z] at hr'
    cases hr'
    subst z
    exact ⟨hj, hr, Nat.zero_le _, fun i hi => absurd hi (Nat.not_lt_zero _)⟩
  · have hr' : (if j' = j then some [] else f j') = some r := hr'
    rw [if_neg z] at hr'
    exact k j' r hr'
theorem ScR.oth {f : Nat → Option (List Val)} {r0 : List Val} (k : ScR D h e (upF f j r0)) : ∀ j' r, j' ≠ j → f j' = some r → j' < 100 ∧ jar h (jfr h 31 e) j' ≠ 0 ∧ r.length ≤ 10 ∧ ∀ i, i < r.length → Cel D h (jar h (jar h (jfr h 31 e) j') i) (r.getD i vNull) := fun j' r z hr => k j' r (by unfold upF; rw [if_neg z]; exact hr)
theorem getD_snoc {r : List Val} : ∀ i2, i2 < r.length → (r ++ [x]).getD i2 vNull = r.getD i2 vNull := fun i2 h2 => by
  rw [List.getD_eq_getElem?_getD, List.getElem?_append, if_pos h2, ← List.getD_eq_getElem?_getD]
theorem getD_last {r : List Val} : (r ++ [x]).getD r.length vNull = x := by
  rw [List.getD_eq_getElem?_getD, List.getElem?_append, if_neg (Nat.lt_irrefl _), Nat.sub_self]
  rfl
theorem PlA.kf (k : PlA A E h ρ i) (tr : TreeR D h A ρ) (a : KF K h h') (hI : JInv D h) (hA : NOK A) (il : i < A.length) (hK : ∀ k, 20 ≤ k → k ≤ 29 → K k = false) : PlA A E h' ρ i :=
  k.fn hA (fun j F jl _ => by
    have nk := nkd_ex (nat_ A j)
    have kd := (tr j jl).2.1
    exact (a.obj hI (by omega) (by omega) (hK _ (by omega) (by omega))).fi F) il
theorem wK_n : ∀ k, 20 ≤ k → k ≤ 29 → wK k = false := fun k h1 h2 => by
  rcases (show k = 20 ∨ k = 21 ∨ k = 22 ∨ k = 23 ∨ k = 24 ∨ k = 25 ∨ k = 26 ∨ k = 27 ∨ k = 28 ∨ k = 29 by omega) with e | e | e | e | e | e | e | e | e | e <;> rw [e] <;> rfl
end
