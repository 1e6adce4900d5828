/-! the component: places are written while a statement is checked -/
section
variable {D : JD} {h h' h'' h1 h2 : JH} {ρ : Nat → Nat} {A : List Nod} {E : TEnv} {q c r i v k j d e sc n B u : Nat} {y : Stm} {T : List Tab} {pt : List Nat} {x : Int32}
theorem wkA_cases (e : wkA k = true) : k = 148 ∨ k = 151 ∨ k = 157 ∨ k = 158 ∨ k = 160 := by
  unfold wkA at e
  simp only [Bool.or_eq_true, Nat.beq_eq] at e
  omega
theorem StR.pai {w : Str} (k : StR h q w) (hr : wkA (jkd h r) = true) : StR (wai h r i x) q w := by
  have hc := wkA_cases hr
  have z1 := k.2.1
  have z2 := k.2.2.2.2.1
  exact k.of (same_wai fun z => by rw [z] at z1; omega) (same_wai fun z => by rw [z] at z2; omega)
theorem SF.pai (hr : wkA (jkd h r) = true) : SF D h (wai h r i x) := by
  have hc := wkA_cases hr
  have sm : ∀ q, q ≠ r → same h (wai h r i x) q := fun q hq => same_wai hq
  have cs : ∀ c, CelW D h c → same h (wai h r i x) c ∧ (jfr h 67 c ≠ 0 → same h (wai h r i x) (jfr h 67 c)) := fun c cw => by
    have kc := cw.kd
    refine ⟨sm c fun z => by rw [z] at kc; omega, fun z => ?_⟩
    have := (cw.2.2.2.2.resolve_left z).1
    exact sm _ fun z => by rw [z] at this; omega
  refine ⟨fun _ _ => rfl, fun q _ _ => ⟨rfl, fun F => ⟨fun _ => rfl, rfl, fun _ _ => rfl⟩, fun g i => ?_, fun _ _ _ => rfl, fun _ _ _ => rfl⟩, fun _ _ => rfl, fun q _ cw => cs _ cw, fun c _ _ cw => cs c cw, fun c _ cw => cw.of (cs c cw).1 (cs c cw).2, fun q w k => k.pai hr, fun o => o, Nat.le_refl _⟩
  by_cases z : q = r
  · rw [z, hr] at g; cases g
  · exact ⟨(sm q z).ai i, (sm q z).al i⟩
theorem KF.pai (hr : wkA (jkd h r) = true) : KF chkK h (wai h r i x) := by
  have hc := wkA_cases hr
  refine ⟨fun q _ _ q3 _ => same_wai fun z => ?_, Nat.le_refl _, fun _ _ => rfl, fun o => o⟩
  rw [z] at q3
  rcases hc with g | g | g | g | g <;> rw [g] at q3 <;> cases q3
theorem ScC.pai (k : ScC D h sc E) (hr : wkA (jkd h r) = true) : ScC D (wai h r i x) sc E := by
  obtain ⟨k1, ⟨k3, k4, k5, k6, k7⟩, k8, k12⟩ := k
  refine ⟨k1, ⟨k3, k4, k5, k6, fun j q hq => ?_⟩, k8, k12⟩
  obtain ⟨a1, a2, a3, ⟨t1, t2, t3, t4, t5, t6, t7⟩⟩ := k7 j q hq
  refine ⟨a1, a2, a3.pai hr, t1, t2, t3, t4, t5, t6, fun i v hv => ?_⟩
  obtain ⟨⟨c1, c2, c3, c4⟩, c5⟩ := t7 i v hv
  exact ⟨⟨c1, c2, c3.pai hr, c4⟩, c5⟩
theorem PlT.pai : ∀ (f j : Nat), PlT A E h ρ f j → PlT A E (wai h r i x) ρ f j
  | 0, _, _ => trivial
  | f + 1, j, k => ⟨k.1, fun p hp => PlT.pai f p (k.2 p hp)⟩
theorem PlA.pai (k : PlA A E h ρ j) : PlA A E (wai h r i x) ρ j := fun g => PlT.pai g j (k g)
/-- trees checked earlier keep their places -/
theorem PlA.ck {a b : Nat} (k : PlA A E h ρ j) (hA : NOK A) (ri : RI ρ A.length) (c : CkF sc (NM A ρ a b) h h') (jl : j < A.length) (hj : b ≤ ndL (nat_ A j) ∨ j < a) : PlA A E h' ρ j := fun g => PlT.ck hA ri c g j jl hj (k g)
/-- places so far: no two are alike -/
theorem w_updJ {Q : JO → JH → Prop} {K7 : Nat → Nat → Int32 → JH → Prop} {ps : List Nat} {p arr : Nat} (v0 : v ≠ 0) (ea : jfr h 134 v = arr) (a0 : arr ≠ 0) (al : jln h arr = 10) (pl : k < 10) (lp : ps.length = k) (hp : ∀ (j z : Nat), (ps ++ [p])[j]? = some z → jai h arr j = nI z ∧ z < 100) (hd : 7 ≤ d)
    (h1 : ps.contains p = false → L_X37_check_54 D d Q K7 1 v e (nI k) (nI k) h) (h2 : ∀ z h', JInv D h' → ps.contains p = true → Flt h h' z (sStr "42701") → Q (.inr z) h') :
    ∀ (m j : Nat), j + m = k → ps.contains p = (ps.drop j).contains p → L_X37_check_54 D d Q K7 (m + 1) v e (nI k) (nI j) h
  | 0, j, hjm, eq => by
    have : j = k := by omega
    subst this
    rw [List.drop_eq_nil_of_le (by omega)] at eq
    exact h1 eq
  | m + 1, j, hjm, eq => by
    have jl : j < k := by omega
    have hj : (ps ++ [p])[j]? = some (ps[j]'(by omega)) := by rw [List.getElem?_append, if_pos (by omega)]; exact List.getElem?_eq_getElem (by omega)
    have hk : (ps ++ [p])[k]? = some p := by rw [List.getElem?_append, if_neg (by omega), show k - ps.length = 0 by omega]; rfl
    obtain ⟨x1, x2⟩ := hp j _ hj
    obtain ⟨z1, z2⟩ := hp k p hk
    rw [List.drop_eq_getElem_cons (by omega), List.contains_cons] at eq
    have ixj : ixn (nI j) = j := ixn_nI (by omega)
    have ixk : ixn (nI k) = k := ixn_nI (by omega)
    refine ⟨fun g => ?_, fun g => ⟨v0, ?_⟩⟩
    · have := (nI_leI (by omega) (by omega)).mp g
      omega
    · rw [ea, al, ixj, ixk, x1, z1]
      refine ⟨a0, jin_nI (by omega) (by decide), jin_nI (by omega) (by decide), fun g => ?_, fun g => ?_⟩
      · rw [nI_1]
        have ne : (p == ps[j]) = false := by simpa using fun z => g (by rw [z])
        rw [ne, Bool.false_or] at eq
        exact w_updJ v0 ea a0 al pl lp hp hd h1 h2 m (j + 1) (by omega) eq
      · have ee : ps[j] = p := (nI_eq (by omega) (by omega)).mp g
        refine useR0 (w_fault (w := "42701") ⟨by decide, by decide +kernel⟩ hd) ?_
        rintro z h6 hI6 _ ⟨y1, y2⟩
        exact ⟨y1, h2 z h6 hI6 (by rw [eq, ee]; simp) y2⟩
end
