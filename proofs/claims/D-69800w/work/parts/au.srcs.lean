/-! the parser of the component: SELECT, a source -/
section
variable {D : JD} {p s a base : Nat} {src : Str} {h h' h'' h0 h2 : JH} {σ σ' σ'' σ0 σ2 : PS} {ρ ρ' ρ'' ρ0 : Nat → Nat} {n m n' m' n1 m1 : Int} {d c r q w arr N L L' l : Nat} {ds : Bool} {is : List Itm} {ss : List Src} {gs : List Nat} {wh hv : Option Nat} {os : List (Nat × Bool)} {li : Option Int64} {ox : Int64} {v : Src} {t nm : Str} {lf : Bool}
/-- the source q is none of the first l -/
def SqB (N : Nat) (h : JH) (r q l : Nat) : Prop := (N < q ∧ q ≠ 0 ∧ jkd h q = 31) ∧ ∀ i, i < l → jar h (jfr h 144 r) i ≠ q
theorem SqB.of (b : SqB N h r q l) (s0 : same h h' r) (sA : same h h' (jfr h 144 r)) (kd : jkd h' q = jkd h q) : SqB N h' r q l :=
  ⟨⟨b.1.1, b.1.2.1, by rw [kd]; exact b.1.2.2⟩, fun i hi => by rw [s0.fr, sA.ar]; exact b.2 i hi⟩
/-- only the source q has changed -/
theorem SelS.atO (u : SelS N h ρ L r c ds is ss wh gs hv os li ox) (q31 : jkd h q = 31) (sm : ∀ z, z ≠ q → same h h' z) : SelB N h' r ∧ cI N h' ρ L r c is ∧ ((∀ i, i < ss.length → jar h (jfr h 144 r) i ≠ q) → cS N h' ρ L r ss) ∧ cG h' ρ L r gs ∧ cO h' ρ L r os ∧ cX h' ρ L r ds wh hv li ox ∧ (∀ x w, StR h x w → StR h' x w) ∧ same h h' r ∧ same h h' (jfr h 144 r) := by
  obtain ⟨k1, k2, k3, k4, k5, k6⟩ := u
  have s0 : same h h' r := sm r fun e => by have := k1.1.2.2; rw [e, q31] at this; cases this
  have sA : ∀ x ∈ selA, same h h' (jfr h x.1 r) := fun x hx => sm _ fun e => by
    have y := (k1.ary hx).2.1
    have z := selA_k x hx
    rw [e, q31] at y; omega
  have st : ∀ x w, StR h x w → StR h' x w := fun x w z => by
    have z1 := z.2.1
    have z2 := z.2.2.2.2.1
    exact z.of (sm _ fun y => by rw [y] at z1; omega) (sm _ fun y => by rw [y] at z2; omega)
  exact ⟨k1.of s0.kd (fun x _ => s0.fr _) fun x hx => ⟨(sA x hx).kd, (sA x hx).ln⟩,
    k2.of (s0.fr _) (s0.fi _) (sA (142, 152, 12) (by decide)) (fun i hi => sm _ fun e => by have := k2.1.kd hi; rw [e, q31] at this; cases this) st (RX.rf _ _) (Nat.le_refl _),
    fun hq => k3.of (s0.fr _) (s0.fi _) (sA (144, 153, 3) (by decide)) (fun i hi => sm _ (hq i hi)) st (RX.rf _ _) (Nat.le_refl _),
    k4.of (s0.fr _) (s0.fi _) (sA (147, 154, 8) (by decide)) (RX.rf _ _) (Nat.le_refl _),
    k5.of (s0.fr _) (s0.fr _) (s0.fi _) (sA (150, 155, 8) (by decide)) (sA (151, 156, 8) (by decide)) (RX.rf _ _) (Nat.le_refl _), k6.of s0 (RX.rf _ _) (Nat.le_refl _), st, s0, sA (144, 153, 3) (by decide)⟩
theorem SelS.atS (u : SelS N h ρ L r c ds is ss wh gs hv os li ox) (b : SqB N h r q ss.length) (sm : ∀ z, z ≠ q → same h h' z) (kd : jkd h' q = jkd h q) : SelS N h' ρ L r c ds is ss wh gs hv os li ox ∧ SqB N h' r q ss.length ∧ ∀ x w, StR h x w → StR h' x w := by
  obtain ⟨a1, a2, a3, a4, a5, a6, a7, a8, a9⟩ := u.atO b.1.2.2 sm
  exact ⟨⟨a1, a2, a3 b.2, a4, a5, a6⟩, b.of a8 a9 kd, a7⟩
/-- the source is laid behind the others -/
theorem SelS.addS (u : SelS N h ρ L r c ds is ss wh gs hv os li ox) (b : SqB N h r q ss.length) (hq : SrcR h ρ q v) (hL : ∀ x, v.2.2.2 = some x → x < L) (hl : ss.length < 3) :
    SelS N (wfi (war h (jfr h 144 r) ss.length q) 145 r (nI (ss.length + 1))) ρ L r c ds is (ss ++ [v]) wh gs hv os li ox ∧ SqB N (wfi (war h (jfr h 144 r) ss.length q) 145 r (nI (ss.length + 1))) r q ss.length ∧ jar (wfi (war h (jfr h 144 r) ss.length q) 145 r (nI (ss.length + 1))) (jfr (wfi (war h (jfr h 144 r) ss.length q) 145 r (nI (ss.length + 1))) 144 r) ss.length = q := by
  obtain ⟨k1, k2, k3, k4, k5, k6⟩ := u
  have A0 := k1.ary (x := (144, 153, 3)) (by decide)
  dsimp only at A0
  have kA : jkd h (jfr h 144 r) = 153 := A0.2.1
  obtain ⟨a1, a2, a3, a4, a5, a6, a7⟩ := k1.arw (h' := war h (jfr h 144 r) ss.length q) (x := (144, 153, 3)) (ρ := ρ) (L := L) (by decide) (fun q hq => same_war hq) rfl rfl
  have arA : ∀ i, jar (war h (jfr h 144 r) ss.length q) (jfr h 144 r) i = if i = ss.length then q else jar h (jfr h 144 r) i := fun i => by simp only [jkd_wfi, jln_wfi, jfi_wfi, jfl_wfi, jfr_wfi, jai_wfi, jal_wfi, jar_wfi, jsz_wfi, jus_wfi, jkd_wfl, jln_wfl, jfi_wfl, jfl_wfl, jfr_wfl, jai_wfl, jal_wfl, jar_wfl, jsz_wfl, jus_wfl, jkd_wfr, jln_wfr, jfi_wfr, jfl_wfr, jfr_wfr, jai_wfr, jal_wfr, jar_wfr, jsz_wfr, jus_wfr, jkd_wai, jln_wai, jfi_wai, jfl_wai, jfr_wai, jai_wai, jal_wai, jar_wai, jsz_wai, jus_wai, jkd_wal, jln_wal, jfi_wal, jfl_wal, jfr_wal, jai_wal, jal_wal, jar_wal, jsz_wal, jus_wal, jkd_war, jln_war, jfi_war, jfl_war, jfr_war, jai_war, jal_war, jar_war, jsz_war, jus_war, jkd_nwo, jln_nwo, jfi_nwo, jfl_nwo, jfr_nwo, jai_nwo, jal_nwo, jar_nwo, jsz_nwo, jus_nwo, jkd_nwa, jln_nwa, jfi_nwa, jfl_nwa, jfr_nwa, jai_nwa, jal_nwa, jar_nwa, jsz_nwa, jus_nwa, jkd_cpa, jln_cpa, jfi_cpa, jfl_cpa, jfr_cpa, jai_cpa, jal_cpa, jar_cpa, jsz_cpa, jus_cpa, true_and]
  have nA : ∀ z, jkd h z = 31 → same h (war h (jfr h 144 r) ss.length q) z := fun z hz => same_war fun e => by rw [e] at hz; omega
  have c1 : SrsR N (war h (jfr h 144 r) ss.length q) ρ (jfr h 144 r) (ss ++ [v]) := fun i y hy => by
    rw [arA]
    rcases get_snoc hy with ⟨e, rfl⟩ | ⟨e, g⟩
    · rw [if_pos e]
      exact ⟨b.1.1, hq.of (nA _ hq.2.1) a2 fun _ _ => rfl⟩
    · rw [if_neg e]
      have y := k3.1 i y g
      exact ⟨y.1, y.2.of (nA _ y.2.2.1) a2 fun _ _ => rfl⟩
  generalize hh5 : war h (jfr h 144 r) ss.length q = h5 at a1 a2 a3 a4 a5 a6 a7 arA c1 ⊢
  obtain ⟨o1, o2, o3, o4, o5, o6⟩ := a1.own (h' := wfi h5 145 r (nI (ss.length + 1))) (ρ := ρ) (L := L) (fun q hq => same_wfi hq) rfl (fun x hx => rfl)
  have i1 : ∀ F, F ≠ 145 → jfi (wfi h5 145 r (nI (ss.length + 1))) F r = jfi h5 F r := fun F hF => by rw [jfi_wfi, if_neg fun z => hF z.1]
  have f5 : ∀ F q, jfr h5 F q = jfr h F q := fun F q => by rw [← hh5]; rfl
  have d5 : ∀ q, jkd h5 q = jkd h q := fun q => by rw [← hh5]; rfl
  have ne : jfr h 144 r ≠ r := A0.2.2.2.2
  refine ⟨⟨o1, o3 _ _ (a3 (by decide) _ _ k2) (i1 _ (by decide)), ⟨?_, ⟨?_, by simp; omega⟩, fun y hy x hx => ?_⟩, o5 _ (a5 (by decide) _ k4) (i1 _ (by decide)), o6 _ (a6 (by decide) (by decide) _ k5) (i1 _ (by decide)), ?_⟩, ⟨⟨b.1.1, b.1.2.1, ?_⟩, fun i hi => ?_⟩, ?_⟩
  · show SrsR N (wfi h5 145 r (nI (ss.length + 1))) ρ (jfr h5 144 r) (ss ++ [v])
    rw [f5]
    refine c1.of (same_wfi ne) (fun i hi => same_wfi fun e => ?_) o2 fun _ _ _ _ => rfl
    have := c1.kd hi
    rw [e, d5, k1.1.2.2] at this; cases this
  · rw [jfi_wfi, if_pos ⟨rfl, rfl⟩]; simp
  · rcases List.mem_append.mp hy with z | z
    · exact k3.2.2 y z x hx
    · rw [List.mem_singleton.mp z] at hx; exact hL x hx
  · have k6' := k6.of a7 (RX.rf ρ L) (Nat.le_refl L)
    exact ⟨by rw [i1 _ (by decide)]; exact k6'.1, k6'.2⟩
  · show jkd h5 q = 31
    rw [d5]; exact b.1.2.2
  · show jar h5 (jfr h5 144 r) i ≠ q
    rw [f5, arA, if_neg (by omega)]; exact b.2 i hi
  · show jar h5 (jfr h5 144 r) ss.length = q
    rw [f5, arA, if_pos rfl]
/-- its condition is read behind -/
theorem SelS.on {x : Nat} (u : SelS N h ρ L r c ds is (ss ++ [(t, nm, lf, none)]) wh gs hv os li ox) (b : SqB N h r q ss.length) (e : jar h (jfr h 144 r) ss.length = q) (hx : x < L) : SelS N (wfr h 140 q (ρ x)) ρ L r c ds is (ss ++ [(t, nm, lf, some x)]) wh gs hv os li ox := by
  obtain ⟨a1, a2, _, a4, a5, a6, a7, a8, a9⟩ := u.atO (h' := wfr h 140 q (ρ x)) b.1.2.2 (fun z hz => same_wfr hz)
  obtain ⟨k1, k2, ⟨k3, k3', k3''⟩, _⟩ := u
  refine ⟨a1, a2, ⟨fun i y hy => ?_, ?_, fun y hy z hz => ?_⟩, a4, a5, a6⟩
  · rw [a8.fr, a9.ar]
    rcases get_snoc hy with ⟨e1, rfl⟩ | ⟨e1, g⟩
    · have y := k3 ss.length (t, nm, lf, none) (by simp)
      rw [e1, e]
      rw [e] at y
      obtain ⟨y1, y2, y3, y4, y5, y6, y7⟩ := y
      refine ⟨y1, y2, y3, ?_, ?_, y6, ?_⟩
      · rw [jfr_wfr, if_neg fun z => absurd z.1 (by decide)]; exact a7 _ _ y4
      · rw [jfr_wfr, if_neg fun z => absurd z.1 (by decide)]; exact a7 _ _ y5
      · show jfr (wfr h 140 q (ρ x)) 140 q = ρ x
        rw [jfr_wfr, if_pos ⟨rfl, rfl⟩]
    · have il : i < ss.length := (List.getElem?_eq_some_iff.mp g).1
      have y := k3 i y (by rw [List.getElem?_append_left il]; exact g)
      exact ⟨y.1, y.2.of (same_wfr (b.2 i il)) a7 fun _ _ => rfl⟩
  · rw [a8.fi]
    simpa using k3'
  · rcases List.mem_append.mp hy with w | w
    · exact k3'' y (List.mem_append_left _ w) z hz
    · rw [List.mem_singleton.mp w] at hz
      cases hz; exact hx
end
