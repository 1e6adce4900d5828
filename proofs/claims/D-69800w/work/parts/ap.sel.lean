/-! the parser of the component: SELECT while it is read -/
section
variable {D : JD} {p s a base : Nat} {src : Str} {h h' h'' h0 : JH} {σ σ' σ'' σ0 : PS} {ρ ρ' ρ'' ρ0 : Nat → Nat} {n m n' m' : Int} {d c r w arr N L L' : Nat} {ds : Bool} {is : List Itm} {ss : List Src} {gs : List Nat} {wh hv : Option Nat} {os : List (Nat × Bool)} {li : Option Int64} {ox : Int64}
/-- its arrays: field, kind, length -/
def selA : List (Nat × Nat × Nat) := [(142, 152, 12), (144, 153, 3), (147, 154, 8), (150, 155, 8), (151, 156, 8), (152, 157, 8), (156, 158, 16), (157, 159, 16), (158, 160, 16)]
theorem selA_k : ∀ x ∈ selA, 152 ≤ x.2.1 ∧ x.2.1 ≤ 160 ∧ x.1 ≠ 146 ∧ x.1 ≠ 149 := by decide
theorem selA_i : ∀ x ∈ selA, ∀ y ∈ selA, x.2.1 = y.2.1 → x = y := by decide
def SelB (N : Nat) (h : JH) (r : Nat) : Prop := (N < r ∧ r ≠ 0 ∧ jkd h r = 33) ∧ ∀ x ∈ selA, N < jfr h x.1 r ∧ AR h (jfr h x.1 r) x.2.1 x.2.2
def OtL (ρ : Nat → Nat) (L v : Nat) (o : Option Nat) : Prop := OtR ρ v o ∧ ∀ x, o = some x → x < L
def OrdR (h : JH) (ρ : Nat → Nat) (A B : Nat) (l : List (Nat × Bool)) : Prop := ∀ i x, l[i]? = some x → jar h A i = ρ x.1 ∧ jai h B i = (if x.2 = true then 1 else 0)
def cI (N : Nat) (h : JH) (ρ : Nat → Nat) (L r c : Nat) (is : List Itm) : Prop := ItsR N h ρ (jfr h 142 r) is ∧ jfi h 143 r = nI c ∧ ∀ it ∈ is, it.1 = false → it.2.2 < L
def cS (N : Nat) (h : JH) (ρ : Nat → Nat) (L r : Nat) (ss : List Src) : Prop := SrsR N h ρ (jfr h 144 r) ss ∧ (jfi h 145 r = nI ss.length ∧ ss.length ≤ 3) ∧ ∀ v ∈ ss, ∀ x, v.2.2.2 = some x → x < L
def cG (h : JH) (ρ : Nat → Nat) (L r : Nat) (gs : List Nat) : Prop := ExsR h ρ (jfr h 147 r) gs ∧ (jfi h 148 r = nI gs.length ∧ gs.length ≤ 8) ∧ ∀ x ∈ gs, x < L
def cO (h : JH) (ρ : Nat → Nat) (L r : Nat) (os : List (Nat × Bool)) : Prop := OrdR h ρ (jfr h 150 r) (jfr h 151 r) os ∧ (jfi h 153 r = nI os.length ∧ os.length ≤ 8) ∧ ∀ x ∈ os, x.1 < L
def cX (h : JH) (ρ : Nat → Nat) (L r : Nat) (ds : Bool) (wh hv : Option Nat) (li : Option Int64) (ox : Int64) : Prop :=
  jfi h 141 r = (if ds = true then 1 else 0) ∧ OtL ρ L (jfr h 146 r) wh ∧ OtL ρ L (jfr h 149 r) hv ∧ jfl h 154 r = li.getD 9007199254740991 ∧ jfl h 155 r = ox
/-- SELECT; its parts are new since N, its trees stand among the first L nodes -/
def SelS (N : Nat) (h : JH) (ρ : Nat → Nat) (L r c : Nat) (ds : Bool) (is : List Itm) (ss : List Src) (wh : Option Nat) (gs : List Nat) (hv : Option Nat) (os : List (Nat × Bool)) (li : Option Int64) (ox : Int64) : Prop :=
  SelB N h r ∧ cI N h ρ L r c is ∧ cS N h ρ L r ss ∧ cG h ρ L r gs ∧ cO h ρ L r os ∧ cX h ρ L r ds wh hv li ox
theorem OtL.of {v : Nat} {o : Option Nat} (k : OtL ρ L v o) (rx : RX ρ ρ' L) (hL : L ≤ L') : OtL ρ' L' v o := by
  refine ⟨?_, fun x hx => Nat.lt_of_lt_of_le (k.2 x hx) hL⟩
  cases o with
  | none => exact k.1
  | some x =>
    have e : v = ρ x := k.1
    show v = ρ' x
    rw [rx x (k.2 x rfl)]; exact e
theorem cI.of (k : cI N h ρ L r c is) (e1 : jfr h' 142 r = jfr h 142 r) (e2 : jfi h' 143 r = jfi h 143 r) (sA : same h h' (jfr h 142 r)) (sI : ∀ i, i < is.length → same h h' (jar h (jfr h 142 r) i)) (st : ∀ q w, StR h q w → StR h' q w) (rx : RX ρ ρ' L) (hL : L ≤ L') : cI N h' ρ' L' r c is := by
  obtain ⟨k1, k2, k3⟩ := k
  exact ⟨by rw [e1]; exact k1.of sA sI st fun it hi hf => rx _ (k3 it hi hf), by rw [e2]; exact k2, fun it hi hf => Nat.lt_of_lt_of_le (k3 it hi hf) hL⟩
theorem cS.of (k : cS N h ρ L r ss) (e1 : jfr h' 144 r = jfr h 144 r) (e2 : jfi h' 145 r = jfi h 145 r) (sA : same h h' (jfr h 144 r)) (sI : ∀ i, i < ss.length → same h h' (jar h (jfr h 144 r) i)) (st : ∀ q w, StR h q w → StR h' q w) (rx : RX ρ ρ' L) (hL : L ≤ L') : cS N h' ρ' L' r ss := by
  obtain ⟨k1, k2, k3⟩ := k
  exact ⟨by rw [e1]; exact k1.of sA sI st fun v hi x hx => rx _ (k3 v hi x hx), by rw [e2]; exact k2, fun v hi x hx => Nat.lt_of_lt_of_le (k3 v hi x hx) hL⟩
theorem cG.of (k : cG h ρ L r gs) (e1 : jfr h' 147 r = jfr h 147 r) (e2 : jfi h' 148 r = jfi h 148 r) (sA : same h h' (jfr h 147 r)) (rx : RX ρ ρ' L) (hL : L ≤ L') : cG h' ρ' L' r gs := by
  obtain ⟨k1, k2, k3⟩ := k
  exact ⟨by rw [e1]; exact k1.of sA fun x hx => rx _ (k3 x hx), by rw [e2]; exact k2, fun x hx => Nat.lt_of_lt_of_le (k3 x hx) hL⟩
theorem cO.of (k : cO h ρ L r os) (e1 : jfr h' 150 r = jfr h 150 r) (e3 : jfr h' 151 r = jfr h 151 r) (e2 : jfi h' 153 r = jfi h 153 r) (sA : same h h' (jfr h 150 r)) (sB : same h h' (jfr h 151 r)) (rx : RX ρ ρ' L) (hL : L ≤ L') : cO h' ρ' L' r os := by
  obtain ⟨k1, k2, k3⟩ := k
  refine ⟨fun i x hx => ?_, by rw [e2]; exact k2, fun x hx => Nat.lt_of_lt_of_le (k3 x hx) hL⟩
  rw [e1, e3, sA.ar, sB.ai, rx _ (k3 x (List.mem_of_getElem? hx))]
  exact k1 i x hx
theorem cX.of (k : cX h ρ L r ds wh hv li ox) (sm : same h h' r) (rx : RX ρ ρ' L) (hL : L ≤ L') : cX h' ρ' L' r ds wh hv li ox := by
  obtain ⟨k1, k2, k3, k4, k5⟩ := k
  exact ⟨by rw [sm.fi]; exact k1, by rw [sm.fr]; exact k2.of rx hL, by rw [sm.fr]; exact k3.of rx hL, by rw [sm.fl]; exact k4, by rw [sm.fl]; exact k5⟩
theorem SelB.ary {x : Nat × Nat × Nat} (k : SelB N h r) (hx : x ∈ selA) : skd (jkd h (jfr h x.1 r)) = true ∧ jkd h (jfr h x.1 r) = x.2.1 ∧ jln h (jfr h x.1 r) = x.2.2 ∧ jfr h x.1 r ≠ 0 ∧ jfr h x.1 r ≠ r := by
  have y := k.2 x hx
  have z := selA_k x hx
  refine ⟨?_, y.2.2.1, y.2.2.2, y.2.1, fun e => ?_⟩
  · rw [y.2.2.1]
    unfold skd
    simp only [Bool.or_eq_true, Bool.and_eq_true, Nat.ble_eq]
    omega
  · have := y.2.2.1
    rw [e, k.1.2.2] at this; omega
theorem SelB.ne {x y : Nat × Nat × Nat} (k : SelB N h r) (hx : x ∈ selA) (hy : y ∈ selA) (e : x ≠ y) : jfr h x.1 r ≠ jfr h y.1 r := fun z => by
  have a1 := (k.ary hx).2.1
  have a2 := (k.ary hy).2.1
  rw [z, a2] at a1
  exact e (selA_i x hx y hy a1.symm)
theorem SelB.of (k : SelB N h r) (kd : jkd h' r = jkd h r) (e : ∀ x ∈ selA, jfr h' x.1 r = jfr h x.1 r) (sm : ∀ x ∈ selA, jkd h' (jfr h x.1 r) = jkd h (jfr h x.1 r) ∧ jln h' (jfr h x.1 r) = jln h (jfr h x.1 r)) : SelB N h' r := by
  refine ⟨⟨k.1.1, k.1.2.1, by rw [kd]; exact k.1.2.2⟩, fun x hx => ?_⟩
  have y := k.2 x hx
  rw [e x hx]
  exact ⟨y.1, y.2.1, by rw [(sm x hx).1]; exact y.2.2.1, by rw [(sm x hx).2]; exact y.2.2.2⟩
theorem ItsR.kd {A i : Nat} (k : ItsR N h ρ A is) (hi : i < is.length) : jkd h (jar h A i) = 34 := (k i _ (List.getElem?_eq_getElem hi)).2.2.1
theorem SrsR.kd {A i : Nat} (k : SrsR N h ρ A ss) (hi : i < ss.length) : jkd h (jar h A i) = 31 := (k i _ (List.getElem?_eq_getElem hi)).2.2.1
/-- the parser goes on -/
theorem SelS.of (k : SelS N h ρ L r c ds is ss wh gs hv os li ox) (sm : ∀ q, skd (jkd h q) = true → same h h' q) (st : ∀ q w, StR h q w → StR h' q w) (rx : RX ρ ρ' L) (hL : L ≤ L') : SelS N h' ρ' L' r c ds is ss wh gs hv os li ox := by
  obtain ⟨k1, k2, k3, k4, k5, k6⟩ := k
  have s0 : same h h' r := sm r (by rw [k1.1.2.2]; decide)
  have sA : ∀ x ∈ selA, same h h' (jfr h x.1 r) := fun x hx => sm _ (k1.ary hx).1
  exact ⟨k1.of s0.kd (fun x _ => s0.fr _) fun x hx => ⟨(sA x hx).kd, (sA x hx).ln⟩,
    k2.of (s0.fr _) (s0.fi _) (sA (142, 152, 12) (by decide)) (fun i hi => sm _ (by rw [k2.1.kd hi]; decide)) st rx hL,
    k3.of (s0.fr _) (s0.fi _) (sA (144, 153, 3) (by decide)) (fun i hi => sm _ (by rw [k3.1.kd hi]; decide)) st rx hL,
    k4.of (s0.fr _) (s0.fi _) (sA (147, 154, 8) (by decide)) rx hL,
    k5.of (s0.fr _) (s0.fr _) (s0.fi _) (sA (150, 155, 8) (by decide)) (sA (151, 156, 8) (by decide)) rx hL, k6.of s0 rx hL⟩
theorem POk.selS (k : POk D p s a base src h h' σ σ' ρ ρ' n m) (k0 : PsR D p s a base src h σ ρ) (hI : JInv D h) (u : SelS N h ρ (psA σ).length r c ds is ss wh gs hv os li ox) : SelS N h' ρ' (psA σ').length r c ds is ss wh gs hv os li ox :=
  u.of (fun q hq => k.obj k0 hI hq) k.2.1.2.2.2.2 k.2.2.1 k.2.2.2.2.1.len
/-- only r itself has changed, not its arrays -/
theorem SelB.own (k : SelB N h r) (sm : ∀ q, q ≠ r → same h h' q) (kd : jkd h' r = jkd h r) (e : ∀ x ∈ selA, jfr h' x.1 r = jfr h x.1 r) :
    SelB N h' r ∧ (∀ q w, StR h q w → StR h' q w) ∧ (∀ c is, cI N h ρ L r c is → jfi h' 143 r = jfi h 143 r → cI N h' ρ L r c is) ∧ (∀ ss, cS N h ρ L r ss → jfi h' 145 r = jfi h 145 r → cS N h' ρ L r ss) ∧ (∀ gs, cG h ρ L r gs → jfi h' 148 r = jfi h 148 r → cG h' ρ L r gs) ∧ (∀ os, cO h ρ L r os → jfi h' 153 r = jfi h 153 r → cO h' ρ L r os) := by
  have st : ∀ q w, StR h q w → StR h' q w := fun q w z => by
    have z1 := z.2.1
    have z2 := z.2.2.2.2.1
    have z3 := k.1.2.2
    exact z.of (sm _ fun y => by rw [y] at z1; omega) (sm _ fun y => by rw [y] at z2; omega)
  have sA : ∀ x ∈ selA, same h h' (jfr h x.1 r) := fun x hx => sm _ (k.ary hx).2.2.2.2
  refine ⟨k.of kd e fun x hx => ⟨(sA x hx).kd, (sA x hx).ln⟩, st, fun c is z y => ?_, fun ss z y => ?_, fun gs z y => ?_, fun os z y => ?_⟩
  · exact z.of (e (142, 152, 12) (by decide)) y (sA (142, 152, 12) (by decide)) (fun i hi => sm _ fun x => by have := z.1.kd hi; rw [x, k.1.2.2] at this; cases this) st (RX.rf _ _) (Nat.le_refl _)
  · exact z.of (e (144, 153, 3) (by decide)) y (sA (144, 153, 3) (by decide)) (fun i hi => sm _ fun x => by have := z.1.kd hi; rw [x, k.1.2.2] at this; cases this) st (RX.rf _ _) (Nat.le_refl _)
  · exact z.of (e (147, 154, 8) (by decide)) y (sA (147, 154, 8) (by decide)) (RX.rf _ _) (Nat.le_refl _)
  · exact z.of (e (150, 155, 8) (by decide)) (e (151, 156, 8) (by decide)) y (sA (150, 155, 8) (by decide)) (sA (151, 156, 8) (by decide)) (RX.rf _ _) (Nat.le_refl _)
/-- only one of its arrays has changed -/
theorem SelB.arw {x : Nat × Nat × Nat} (k : SelB N h r) (hx : x ∈ selA) (sm : ∀ q, q ≠ jfr h x.1 r → same h h' q) (kd : jkd h' (jfr h x.1 r) = jkd h (jfr h x.1 r)) (ln : jln h' (jfr h x.1 r) = jln h (jfr h x.1 r)) :
    SelB N h' r ∧ (∀ q w, StR h q w → StR h' q w) ∧ (x.1 ≠ 142 → ∀ c is, cI N h ρ L r c is → cI N h' ρ L r c is) ∧ (x.1 ≠ 144 → ∀ ss, cS N h ρ L r ss → cS N h' ρ L r ss) ∧ (x.1 ≠ 147 → ∀ gs, cG h ρ L r gs → cG h' ρ L r gs) ∧ (x.1 ≠ 150 → x.1 ≠ 151 → ∀ os, cO h ρ L r os → cO h' ρ L r os) ∧ same h h' r := by
  have ka := k.ary hx
  have kk := selA_k x hx
  have s0 : same h h' r := sm r fun z => ka.2.2.2.2 z.symm
  have st : ∀ q w, StR h q w → StR h' q w := fun q w z => by
    have z1 := z.2.1
    have z2 := z.2.2.2.2.1
    have z3 := ka.2.1
    exact z.of (sm _ fun y => by rw [y] at z1; omega) (sm _ fun y => by rw [y] at z2; omega)
  have sA : ∀ y ∈ selA, x.1 ≠ y.1 → same h h' (jfr h y.1 r) := fun y hy ne => sm _ (k.ne hy hx fun z => ne (by rw [z]))
  have ob : ∀ q, jkd h q = 31 ∨ jkd h q = 34 → same h h' q := fun q hq => sm q fun z => by rw [z, ka.2.1] at hq; omega
  refine ⟨k.of s0.kd (fun y _ => s0.fr _) fun y hy => ?_, st, fun ne c is z => ?_, fun ne ss z => ?_, fun ne gs z => ?_, fun n1 n2 os z => ?_, s0⟩
  · by_cases z : jfr h y.1 r = jfr h x.1 r
    · rw [z]; exact ⟨kd, ln⟩
    · exact ⟨(sm _ z).kd, (sm _ z).ln⟩
  · exact z.of (s0.fr _) (s0.fi _) (sA (142, 152, 12) (by decide) ne) (fun i hi => ob _ (Or.inr (z.1.kd hi))) st (RX.rf _ _) (Nat.le_refl _)
  · exact z.of (s0.fr _) (s0.fi _) (sA (144, 153, 3) (by decide) ne) (fun i hi => ob _ (Or.inl (z.1.kd hi))) st (RX.rf _ _) (Nat.le_refl _)
  · exact z.of (s0.fr _) (s0.fi _) (sA (147, 154, 8) (by decide) ne) (RX.rf _ _) (Nat.le_refl _)
  · exact z.of (s0.fr _) (s0.fr _) (s0.fi _) (sA (150, 155, 8) (by decide) n1) (sA (151, 156, 8) (by decide) n2) (RX.rf _ _) (Nat.le_refl _)
/-! the scalar fields -/
theorem SelS.sWh {v : Nat} (u : SelS N h ρ L r c ds is ss none gs hv os li ox) (hv1 : OtL ρ L v wh) : SelS N (wfr h 146 r v) ρ L r c ds is ss wh gs hv os li ox := by
  obtain ⟨k1, k2, k3, k4, k5, k6, k7, k8, k9, k10⟩ := u
  obtain ⟨o1, _, o3, o4, o5, o6⟩ := k1.own (h' := wfr h 146 r v) (ρ := ρ) (L := L) (fun q hq => same_wfr hq) rfl (fun x hx => by rw [jfr_wfr, if_neg fun z => (selA_k x hx).2.2.1 z.1])
  refine ⟨o1, o3 _ _ k2 rfl, o4 _ k3 rfl, o5 _ k4 rfl, o6 _ k5 rfl, k6, ?_, ?_, k9, k10⟩
  · rw [jfr_wfr, if_pos ⟨rfl, rfl⟩]; exact hv1
  · rw [jfr_wfr, if_neg fun z => absurd z.1 (by decide)]; exact k8
theorem SelS.sHv {v : Nat} (u : SelS N h ρ L r c ds is ss wh gs none os li ox) (hv1 : OtL ρ L v hv) : SelS N (wfr h 149 r v) ρ L r c ds is ss wh gs hv os li ox := by
  obtain ⟨k1, k2, k3, k4, k5, k6, k7, k8, k9, k10⟩ := u
  obtain ⟨o1, _, o3, o4, o5, o6⟩ := k1.own (h' := wfr h 149 r v) (ρ := ρ) (L := L) (fun q hq => same_wfr hq) rfl (fun x hx => by rw [jfr_wfr, if_neg fun z => (selA_k x hx).2.2.2 z.1])
  refine ⟨o1, o3 _ _ k2 rfl, o4 _ k3 rfl, o5 _ k4 rfl, o6 _ k5 rfl, k6, ?_, ?_, k9, k10⟩
  · rw [jfr_wfr, if_neg fun z => absurd z.1 (by decide)]; exact k7
  · rw [jfr_wfr, if_pos ⟨rfl, rfl⟩]; exact hv1
theorem SelS.sLi {v : Int64} (u : SelS N h ρ L r c ds is ss wh gs hv os none ox) : SelS N (wfl h 154 r v) ρ L r c ds is ss wh gs hv os (some v) ox := by
  obtain ⟨k1, k2, k3, k4, k5, k6, k7, k8, k9, k10⟩ := u
  obtain ⟨o1, _, o3, o4, o5, o6⟩ := k1.own (h' := wfl h 154 r v) (ρ := ρ) (L := L) (fun q hq => same_wfl hq) rfl (fun x hx => rfl)
  refine ⟨o1, o3 _ _ k2 rfl, o4 _ k3 rfl, o5 _ k4 rfl, o6 _ k5 rfl, k6, k7, k8, ?_, ?_⟩
  · rw [jfl_wfl, if_pos ⟨rfl, rfl⟩]; rfl
  · rw [jfl_wfl, if_neg fun z => absurd z.1 (by decide)]; exact k10
theorem SelS.sOx {v : Int64} (u : SelS N h ρ L r c ds is ss wh gs hv os li ox) : SelS N (wfl h 155 r v) ρ L r c ds is ss wh gs hv os li v := by
  obtain ⟨k1, k2, k3, k4, k5, k6, k7, k8, k9, k10⟩ := u
  obtain ⟨o1, _, o3, o4, o5, o6⟩ := k1.own (h' := wfl h 155 r v) (ρ := ρ) (L := L) (fun q hq => same_wfl hq) rfl (fun x hx => rfl)
  refine ⟨o1, o3 _ _ k2 rfl, o4 _ k3 rfl, o5 _ k4 rfl, o6 _ k5 rfl, k6, k7, k8, ?_, ?_⟩
  · rw [jfl_wfl, if_neg fun z => absurd z.1 (by decide)]; exact k9
  · rw [jfl_wfl, if_pos ⟨rfl, rfl⟩]
/-- one more group -/
theorem SelS.sG {x : Nat} (u : SelS N h ρ L r c ds is ss wh gs hv os li ox) (hx : x < L) (hl : gs.length < 8) : SelS N (wfi (war h (jfr h 147 r) gs.length (ρ x)) 148 r (nI (gs.length + 1))) ρ L r c ds is ss wh (gs ++ [x]) hv os li ox := by
  obtain ⟨k1, k2, k3, k4, k5, k6⟩ := u
  obtain ⟨a1, a2, a3, a4, a5, a6, a7⟩ := k1.arw (h' := war h (jfr h 147 r) gs.length (ρ x)) (x := (147, 154, 8)) (ρ := ρ) (L := L) (by decide) (fun q hq => same_war hq) rfl rfl
  have g1 : ExsR (war h (jfr h 147 r) gs.length (ρ x)) ρ (jfr h 147 r) (gs ++ [x]) := k4.1.put
  generalize hh : war h (jfr h 147 r) gs.length (ρ x) = h1 at *
  have f1 : ∀ F q, jfr h1 F q = jfr h F q := fun F q => by rw [← hh]; rfl
  obtain ⟨o1, _, o3, o4, o5, o6⟩ := a1.own (h' := wfi h1 148 r (nI (gs.length + 1))) (ρ := ρ) (L := L) (fun q hq => same_wfi hq) rfl (fun x hx => rfl)
  have i1 : ∀ F, F ≠ 148 → jfi (wfi h1 148 r (nI (gs.length + 1))) F r = jfi h1 F r := fun F hF => by rw [jfi_wfi, if_neg fun z => hF z.1]
  refine ⟨o1, o3 _ _ (a3 (by decide) _ _ k2) (i1 _ (by decide)), o4 _ (a4 (by decide) _ k3) (i1 _ (by decide)), ⟨?_, ⟨?_, by simp; omega⟩, fun y hy => ?_⟩, o6 _ (a6 (by decide) (by decide) _ k5) (i1 _ (by decide)), ?_⟩
  · show ExsR (wfi h1 148 r (nI (gs.length + 1))) ρ (jfr h1 147 r) (gs ++ [x])
    rw [f1]
    exact g1.of (same_wfi (k1.ary (x := (147, 154, 8)) (by decide)).2.2.2.2) fun _ _ => rfl
  · rw [jfi_wfi, if_pos ⟨rfl, rfl⟩]; simp
  · rcases List.mem_append.mp hy with z | z
    · exact k4.2.2 y z
    · rw [List.mem_singleton.mp z]; exact hx
  · have k6' := k6.of a7 (RX.rf ρ L) (Nat.le_refl L)
    exact ⟨by rw [i1 _ (by decide)]; exact k6'.1, k6'.2⟩
end
