/-! the parser of the component: SELECT, an item -/
section
variable {D : JD} {p s a base : Nat} {src : Str} {h h' h'' h0 h2 : JH} {σ σ' σ'' σ0 σ2 : PS} {ρ ρ' ρ'' ρ0 : Nat → Nat} {n m n' m' n1 m1 : Int} {d c r q w arr N L L' l : Nat} {ds : Bool} {is : List Itm} {ss : List Src} {gs : List Nat} {wh hv : Option Nat} {os : List (Nat × Bool)} {li : Option Int64} {ox : Int64} {it : Itm}
/-- the item q stands at l among the items of r, and not before -/
def ItB (N : Nat) (h : JH) (r q l : Nat) : Prop := (N < q ∧ q ≠ 0 ∧ jkd h q = 34) ∧ jar h (jfr h 142 r) l = q ∧ ∀ i, i < l → jar h (jfr h 142 r) i ≠ q
theorem ItB.of (b : ItB N h r q l) (s0 : same h h' r) (sA : same h h' (jfr h 142 r)) (kd : jkd h' q = jkd h q) : ItB N h' r q l := by
  obtain ⟨⟨b1, b2, b3⟩, b4, b5⟩ := b
  refine ⟨⟨b1, b2, by rw [kd]; exact b3⟩, by rw [s0.fr, sA.ar]; exact b4, fun i hi => by rw [s0.fr, sA.ar]; exact b5 i hi⟩
/-- only the item q has changed -/
theorem SelS.at (u : SelS N h ρ L r c ds is ss wh gs hv os li ox) (b : ItB N h r q is.length) (sm : ∀ z, z ≠ q → same h h' z) (kd : jkd h' q = jkd h q) : SelS N h' ρ L r c ds is ss wh gs hv os li ox ∧ ItB N h' r q is.length ∧ ∀ x w, StR h x w → StR h' x w := by
  obtain ⟨k1, k2, k3, k4, k5, k6⟩ := u
  have q34 := b.1.2.2
  have s0 : same h h' r := sm r fun e => by have := k1.1.2.2; rw [e, q34] at this; cases this
  have sA : ∀ x ∈ selA, same h h' (jfr h x.1 r) := fun x hx => sm _ fun e => by
    have y := (k1.ary hx).2.1
    have z := selA_k x hx
    rw [e, q34] at y; omega
  have st : ∀ x w, StR h x w → StR h' x w := fun x w z => by
    have z1 := z.2.1
    have z2 := z.2.2.2.2.1
    exact z.of (sm _ fun y => by rw [y] at z1; omega) (sm _ fun y => by rw [y] at z2; omega)
  have a142 := sA (142, 152, 12) (by decide)
  exact ⟨⟨k1.of s0.kd (fun x _ => s0.fr _) fun x hx => ⟨(sA x hx).kd, (sA x hx).ln⟩,
    k2.of (s0.fr _) (s0.fi _) a142 (fun i hi => sm _ (b.2.2 i hi)) st (RX.rf _ _) (Nat.le_refl _),
    k3.of (s0.fr _) (s0.fi _) (sA (144, 153, 3) (by decide)) (fun i hi => sm _ fun e => by have := k3.1.kd hi; rw [e, q34] at this; cases this) st (RX.rf _ _) (Nat.le_refl _),
    k4.of (s0.fr _) (s0.fi _) (sA (147, 154, 8) (by decide)) (RX.rf _ _) (Nat.le_refl _),
    k5.of (s0.fr _) (s0.fr _) (s0.fi _) (sA (150, 155, 8) (by decide)) (sA (151, 156, 8) (by decide)) (RX.rf _ _) (Nat.le_refl _), k6.of s0 (RX.rf _ _) (Nat.le_refl _)⟩, b.of s0 a142 kd, st⟩
/-- the item is whole -/
theorem SelS.fin (u : SelS N h ρ L r c ds is ss wh gs hv os li ox) (b : ItB N h r q is.length) (hi : ItmR h ρ q it) (hL : it.1 = false → it.2.2 < L) : SelS N h ρ L r c ds (is ++ [it]) ss wh gs hv os li ox :=
  ⟨u.1, ⟨u.2.1.1.snoc (by rw [b.2.1]; exact b.1.1) (by rw [b.2.1]; exact hi), u.2.1.2.1, fun x hx hf => by
    rcases List.mem_append.mp hx with z | z
    · exact u.2.1.2.2 x z hf
    · rw [List.mem_singleton.mp z] at hf ⊢; exact hL hf⟩, u.2.2⟩
theorem SelS.new {kk M : Nat} (hI : JInv D h) (u : SelS N h ρ L r c ds is ss wh gs hv os li ox) : SelS N (nwo h kk M) ρ L r c ds is ss wh gs hv os li ox :=
  u.of (fun z hz => same_nwo (hI.lt fun e => by rw [e] at hz; cases hz)) (fun x w z => z.of (same_nwo (z.lt hI).1) (same_nwo (z.lt hI).2)) (RX.rf _ _) (Nat.le_refl _)
/-- a new item is counted before it is filled -/
theorem SelS.add (hI : JInv D h) (u : SelS N h ρ L r is.length ds is ss wh gs hv os li ox) (hl : is.length < 12) (hN : N ≤ jsz h) :
    SelS N (wfi (war (nwo h 34 4) (jfr h 142 r) is.length (jsz h + 1)) 143 r (nI (is.length + 1))) ρ L r (is.length + 1) ds is ss wh gs hv os li ox ∧ ItB N (wfi (war (nwo h 34 4) (jfr h 142 r) is.length (jsz h + 1)) 143 r (nI (is.length + 1))) r (jsz h + 1) is.length := by
  have u4 := u.new (kk := 34) (M := 4) hI
  have old : ∀ i, i < is.length → jar h (jfr h 142 r) i ≤ jsz h := fun i hi => hI.lt (by rw [u.2.1.1.kd hi]; decide)
  have kq : jkd (nwo h 34 4) (jsz h + 1) = 34 := by simp only [jkd_wfi, jln_wfi, jfi_wfi, jfl_wfi, jfr_wfi, jai_wfi, jal_wfi, jar_wfi, jsz_wfi, jus_wfi, jkd_wfl, jln_wfl, jfi_wfl, jfl_wfl, jfr_wfl, jai_wfl, jal_wfl, jar_wfl, jsz_wfl, jus_wfl, jkd_wfr, jln_wfr, jfi_wfr, jfl_wfr, jfr_wfr, jai_wfr, jal_wfr, jar_wfr, jsz_wfr, jus_wfr, jkd_wai, jln_wai, jfi_wai, jfl_wai, jfr_wai, jai_wai, jal_wai, jar_wai, jsz_wai, jus_wai, jkd_wal, jln_wal, jfi_wal, jfl_wal, jfr_wal, jai_wal, jal_wal, jar_wal, jsz_wal, jus_wal, jkd_war, jln_war, jfi_war, jfl_war, jfr_war, jai_war, jal_war, jar_war, jsz_war, jus_war, jkd_nwo, jln_nwo, jfi_nwo, jfl_nwo, jfr_nwo, jai_nwo, jal_nwo, jar_nwo, jsz_nwo, jus_nwo, jkd_nwa, jln_nwa, jfi_nwa, jfl_nwa, jfr_nwa, jai_nwa, jal_nwa, jar_nwa, jsz_nwa, jus_nwa, jkd_cpa, jln_cpa, jfi_cpa, jfl_cpa, jfr_cpa, jai_cpa, jal_cpa, jar_cpa, jsz_cpa, jus_cpa, if_true]
  have f4 : ∀ F q, jfr (nwo h 34 4) F q = jfr h F q := fun _ _ => rfl
  have r4 : ∀ q i, jar (nwo h 34 4) q i = jar h q i := fun _ _ => rfl
  generalize hh4 : nwo h 34 4 = h4 at u4 kq f4 r4 ⊢
  obtain ⟨k1, k2, k3, k4, k5, k6⟩ := u4
  have A0 := k1.ary (x := (142, 152, 12)) (by decide)
  have kA : jkd h4 (jfr h4 142 r) = 152 := A0.2.1
  rw [← f4] at old
  obtain ⟨a1, a2, a3, a4, a5, a6, a7⟩ := k1.arw (h' := war h4 (jfr h4 142 r) is.length (jsz h + 1)) (x := (142, 152, 12)) (ρ := ρ) (L := L) (by decide) (fun q hq => same_war hq) rfl rfl
  have arA : ∀ i, jar (war h4 (jfr h4 142 r) is.length (jsz h + 1)) (jfr h4 142 r) i = if i = is.length then jsz h + 1 else jar h4 (jfr h4 142 r) i := fun i => by simp only [jkd_wfi, jln_wfi, jfi_wfi, jfl_wfi, jfr_wfi, jai_wfi, jal_wfi, jar_wfi, jsz_wfi, jus_wfi, jkd_wfl, jln_wfl, jfi_wfl, jfl_wfl, jfr_wfl, jai_wfl, jal_wfl, jar_wfl, jsz_wfl, jus_wfl, jkd_wfr, jln_wfr, jfi_wfr, jfl_wfr, jfr_wfr, jai_wfr, jal_wfr, jar_wfr, jsz_wfr, jus_wfr, jkd_wai, jln_wai, jfi_wai, jfl_wai, jfr_wai, jai_wai, jal_wai, jar_wai, jsz_wai, jus_wai, jkd_wal, jln_wal, jfi_wal, jfl_wal, jfr_wal, jai_wal, jal_wal, jar_wal, jsz_wal, jus_wal, jkd_war, jln_war, jfi_war, jfl_war, jfr_war, jai_war, jal_war, jar_war, jsz_war, jus_war, jkd_nwo, jln_nwo, jfi_nwo, jfl_nwo, jfr_nwo, jai_nwo, jal_nwo, jar_nwo, jsz_nwo, jus_nwo, jkd_nwa, jln_nwa, jfi_nwa, jfl_nwa, jfr_nwa, jai_nwa, jal_nwa, jar_nwa, jsz_nwa, jus_nwa, jkd_cpa, jln_cpa, jfi_cpa, jfl_cpa, jfr_cpa, jai_cpa, jal_cpa, jar_cpa, jsz_cpa, jus_cpa, true_and]
  have c1 : cI N (war h4 (jfr h4 142 r) is.length (jsz h + 1)) ρ L r is.length is := by
    refine ⟨fun i it hi => ?_, k2.2.1, k2.2.2⟩
    have il : i < is.length := (List.getElem?_eq_some_iff.mp hi).1
    show N < jar (war h4 (jfr h4 142 r) is.length (jsz h + 1)) (jfr h4 142 r) i ∧ ItmR _ ρ (jar (war h4 (jfr h4 142 r) is.length (jsz h + 1)) (jfr h4 142 r) i) it
    rw [arA, if_neg (by omega)]
    have y := k2.1 i it hi
    exact ⟨y.1, y.2.of (same_war fun e => by have := y.2.2.1; rw [e] at this; omega) a2 fun _ => rfl⟩
  rw [← f4]
  generalize hh5 : war h4 (jfr h4 142 r) is.length (jsz h + 1) = h5 at a1 a2 a3 a4 a5 a6 a7 arA c1 ⊢
  obtain ⟨o1, _, o3, o4, o5, o6⟩ := a1.own (h' := wfi h5 143 r (nI (is.length + 1))) (ρ := ρ) (L := L) (fun q hq => same_wfi hq) rfl (fun x hx => rfl)
  have i1 : ∀ F, F ≠ 143 → jfi (wfi h5 143 r (nI (is.length + 1))) F r = jfi h5 F r := fun F hF => by rw [jfi_wfi, if_neg fun z => hF z.1]
  have f5 : ∀ F q, jfr h5 F q = jfr h4 F q := fun F q => by rw [← hh5]; rfl
  have d5 : ∀ q, jkd h5 q = jkd h4 q := fun q => by rw [← hh5]; rfl
  have ne : jfr h5 142 r ≠ r := by rw [f5]; exact A0.2.2.2.2
  refine ⟨⟨o1, ⟨?_, by rw [jfi_wfi, if_pos ⟨rfl, rfl⟩], c1.2.2⟩, o4 _ (a4 (by decide) _ k3) (i1 _ (by decide)), o5 _ (a5 (by decide) _ k4) (i1 _ (by decide)), o6 _ (a6 (by decide) (by decide) _ k5) (i1 _ (by decide)), ?_⟩, ⟨by omega, Nat.succ_ne_zero _, ?_⟩, ?_, fun i hi => ?_⟩
  · show ItsR N (wfi h5 143 r (nI (is.length + 1))) ρ (jfr h5 142 r) is
    refine c1.1.of (same_wfi ne) (fun i hi => same_wfi fun e => ?_) (fun x w z => ?_) fun _ _ _ => rfl
    · have := c1.1.kd hi
      rw [e, d5, k1.1.2.2] at this; cases this
    · have z1 := z.2.1
      have z2 := z.2.2.2.2.1
      have z3 : jkd h5 r = 33 := by rw [d5]; exact k1.1.2.2
      exact z.of (same_wfi fun y => by rw [y] at z1; omega) (same_wfi fun y => by rw [y] at z2; omega)
  · have k6' := k6.of a7 (RX.rf ρ L) (Nat.le_refl L)
    exact ⟨by rw [i1 _ (by decide)]; exact k6'.1, k6'.2⟩
  · show jkd h5 (jsz h + 1) = 34
    rw [d5]; exact kq
  · show jar h5 (jfr h5 142 r) is.length = _
    rw [f5, arA, if_pos rfl]
  · show jar h5 (jfr h5 142 r) i ≠ _
    rw [f5, arA, if_neg (by omega), r4]
    have := old i hi
    omega
end
