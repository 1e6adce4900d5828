/-! expressions of the component: arrays of parts, comparisons, IN, LIKE, BETWEEN -/
/-- an array of parts that no node has yet -/
def ArU (h : JH) (r : Nat) : Prop := r ≤ jsz h ∧ jkd h r = 222 ∧ ∀ q, jfr h 111 q ≠ r
section
variable {D : JD} {p s a base : Nat} {src : Str} {h h' h'' h0 : JH} {σ σ' σ'' σ0 : PS} {ρ ρ' ρ'' ρ0 : Nat → Nat} {n m n' m' : Int} {d c r : Nat}
theorem ArU.new {N : Nat} (hI : JInv D h) : ArU (nwa h 222 N) (jsz h + 1) := ⟨Nat.le_refl _, by simp only [jkd_wfi, jln_wfi, jfi_wfi, jfl_wfi, jfr_wfi, jai_wfi, jal_wfi, jar_wfi, jsz_wfi, jus_wfi, jkd_wfl, jln_wfl, jfi_wfl, jfl_wfl, jfr_wfl, jai_wfl, jal_wfl, jar_wfl, jsz_wfl, jus_wfl, jkd_wfr, jln_wfr, jfi_wfr, jfl_wfr, jfr_wfr, jai_wfr, jal_wfr, jar_wfr, jsz_wfr, jus_wfr, jkd_wai, jln_wai, jfi_wai, jfl_wai, jfr_wai, jai_wai, jal_wai, jar_wai, jsz_wai, jus_wai, jkd_wal, jln_wal, jfi_wal, jfl_wal, jfr_wal, jai_wal, jal_wal, jar_wal, jsz_wal, jus_wal, jkd_war, jln_war, jfi_war, jfl_war, jfr_war, jai_war, jal_war, jar_war, jsz_war, jus_war, jkd_nwo, jln_nwo, jfi_nwo, jfl_nwo, jfr_nwo, jai_nwo, jal_nwo, jar_nwo, jsz_nwo, jus_nwo, jkd_nwa, jln_nwa, jfi_nwa, jfl_nwa, jfr_nwa, jai_nwa, jal_nwa, jar_nwa, jsz_nwa, jus_nwa, jkd_cpa, jln_cpa, jfi_cpa, jfl_cpa, jfr_cpa, jai_cpa, jal_cpa, jar_cpa, jsz_cpa, jus_cpa, if_true], fun q e => by
  have := hI.refl (F := 111) (r := q)
  simp only [jkd_wfi, jln_wfi, jfi_wfi, jfl_wfi, jfr_wfi, jai_wfi, jal_wfi, jar_wfi, jsz_wfi, jus_wfi, jkd_wfl, jln_wfl, jfi_wfl, jfl_wfl, jfr_wfl, jai_wfl, jal_wfl, jar_wfl, jsz_wfl, jus_wfl, jkd_wfr, jln_wfr, jfi_wfr, jfl_wfr, jfr_wfr, jai_wfr, jal_wfr, jar_wfr, jsz_wfr, jus_wfr, jkd_wai, jln_wai, jfi_wai, jfl_wai, jfr_wai, jai_wai, jal_wai, jar_wai, jsz_wai, jus_wai, jkd_wal, jln_wal, jfi_wal, jfl_wal, jfr_wal, jai_wal, jal_wal, jar_wal, jsz_wal, jus_wal, jkd_war, jln_war, jfi_war, jfl_war, jfr_war, jai_war, jal_war, jar_war, jsz_war, jus_war, jkd_nwo, jln_nwo, jfi_nwo, jfl_nwo, jfr_nwo, jai_nwo, jal_nwo, jar_nwo, jsz_nwo, jus_nwo, jkd_nwa, jln_nwa, jfi_nwa, jfl_nwa, jfr_nwa, jai_nwa, jal_nwa, jar_nwa, jsz_nwa, jus_nwa, jkd_cpa, jln_cpa, jfi_cpa, jfl_cpa, jfr_cpa, jai_cpa, jal_cpa, jar_cpa, jsz_cpa, jus_cpa] at e
  omega⟩
theorem ArR.new {N : Nat} (hN : N ≤ 40) : ArR (nwa h 222 N) ρ (jsz h + 1) [] := ⟨Nat.succ_ne_zero _, by simp only [jkd_wfi, jln_wfi, jfi_wfi, jfl_wfi, jfr_wfi, jai_wfi, jal_wfi, jar_wfi, jsz_wfi, jus_wfi, jkd_wfl, jln_wfl, jfi_wfl, jfl_wfl, jfr_wfl, jai_wfl, jal_wfl, jar_wfl, jsz_wfl, jus_wfl, jkd_wfr, jln_wfr, jfi_wfr, jfl_wfr, jfr_wfr, jai_wfr, jal_wfr, jar_wfr, jsz_wfr, jus_wfr, jkd_wai, jln_wai, jfi_wai, jfl_wai, jfr_wai, jai_wai, jal_wai, jar_wai, jsz_wai, jus_wai, jkd_wal, jln_wal, jfi_wal, jfl_wal, jfr_wal, jai_wal, jal_wal, jar_wal, jsz_wal, jus_wal, jkd_war, jln_war, jfi_war, jfl_war, jfr_war, jai_war, jal_war, jar_war, jsz_war, jus_war, jkd_nwo, jln_nwo, jfi_nwo, jfl_nwo, jfr_nwo, jai_nwo, jal_nwo, jar_nwo, jsz_nwo, jus_nwo, jkd_nwa, jln_nwa, jfi_nwa, jfl_nwa, jfr_nwa, jai_nwa, jal_nwa, jar_nwa, jsz_nwa, jus_nwa, jkd_cpa, jln_cpa, jfi_cpa, jfl_cpa, jfr_cpa, jai_cpa, jal_cpa, jar_cpa, jsz_cpa, jus_cpa, if_true], Nat.zero_le _, by simp only [jkd_wfi, jln_wfi, jfi_wfi, jfl_wfi, jfr_wfi, jai_wfi, jal_wfi, jar_wfi, jsz_wfi, jus_wfi, jkd_wfl, jln_wfl, jfi_wfl, jfl_wfl, jfr_wfl, jai_wfl, jal_wfl, jar_wfl, jsz_wfl, jus_wfl, jkd_wfr, jln_wfr, jfi_wfr, jfl_wfr, jfr_wfr, jai_wfr, jal_wfr, jar_wfr, jsz_wfr, jus_wfr, jkd_wai, jln_wai, jfi_wai, jfl_wai, jfr_wai, jai_wai, jal_wai, jar_wai, jsz_wai, jus_wai, jkd_wal, jln_wal, jfi_wal, jfl_wal, jfr_wal, jai_wal, jal_wal, jar_wal, jsz_wal, jus_wal, jkd_war, jln_war, jfi_war, jfl_war, jfr_war, jai_war, jal_war, jar_war, jsz_war, jus_war, jkd_nwo, jln_nwo, jfi_nwo, jfl_nwo, jfr_nwo, jai_nwo, jal_nwo, jar_nwo, jsz_nwo, jus_nwo, jkd_nwa, jln_nwa, jfi_nwa, jfl_nwa, jfr_nwa, jai_nwa, jal_nwa, jar_nwa, jsz_nwa, jus_nwa, jkd_cpa, jln_cpa, jfi_cpa, jfl_cpa, jfr_cpa, jai_cpa, jal_cpa, jar_cpa, jsz_cpa, jus_cpa, if_true]; exact hN, fun i x hx => by cases hx⟩
theorem PFr.arS (f : PFr h h' p s) (hI : JInv D h) (hp : jkd h p = 14) (hs : jkd h s = 15) (h0 : r ≠ 0) (u : ArU h r) : same h h' r := by
  have := u.2.1
  refine f.1 r u.1 ?_
  rintro (z | z | z | z | z)
  · rw [z, hp] at this; omega
  · rw [z, hs] at this; omega
  · rw [z, hI.ref (F := 90) (k := 100) (by decide +kernel) (z ▸ h0)] at this; omega
  · rw [z, hI.ref (F := 67) (k := 144) (by decide +kernel) (z ▸ h0)] at this; omega
  · omega
theorem POk.arr {l : List Nat} (k : POk D p s a base src h h' σ σ' ρ ρ' n m) (k0 : PsR D p s a base src h σ ρ) (hI : JInv D h) (ar : ArR h ρ r l) (u : ArU h r) (hl : ∀ x ∈ l, x < (psA σ).length) : ArR h' ρ' r l ∧ ArU h' r := by
  have sm := k.2.1.arS hI k0.1.1 k0.s15.1 ar.1 u
  refine ⟨(ar.of sm).ext fun x hx => k.2.2.1 x (hl x hx), Nat.le_trans u.1 k.2.1.2.2.2.1.1, by rw [sm.kd]; exact u.2.1, fun q e => ?_⟩
  rcases k.2.1.2.2.2.1.2 q with z | z
  · rw [z] at e; exact u.2.2 q e
  · have := u.1; omega
theorem ArU.nO {kk N : Nat} (u : ArU h r) : ArU (nwo h kk N) r := by
  have := u.1
  exact ⟨by simp only [jkd_wfi, jln_wfi, jfi_wfi, jfl_wfi, jfr_wfi, jai_wfi, jal_wfi, jar_wfi, jsz_wfi, jus_wfi, jkd_wfl, jln_wfl, jfi_wfl, jfl_wfl, jfr_wfl, jai_wfl, jal_wfl, jar_wfl, jsz_wfl, jus_wfl, jkd_wfr, jln_wfr, jfi_wfr, jfl_wfr, jfr_wfr, jai_wfr, jal_wfr, jar_wfr, jsz_wfr, jus_wfr, jkd_wai, jln_wai, jfi_wai, jfl_wai, jfr_wai, jai_wai, jal_wai, jar_wai, jsz_wai, jus_wai, jkd_wal, jln_wal, jfi_wal, jfl_wal, jfr_wal, jai_wal, jal_wal, jar_wal, jsz_wal, jus_wal, jkd_war, jln_war, jfi_war, jfl_war, jfr_war, jai_war, jal_war, jar_war, jsz_war, jus_war, jkd_nwo, jln_nwo, jfi_nwo, jfl_nwo, jfr_nwo, jai_nwo, jal_nwo, jar_nwo, jsz_nwo, jus_nwo, jkd_nwa, jln_nwa, jfi_nwa, jfl_nwa, jfr_nwa, jai_nwa, jal_nwa, jar_nwa, jsz_nwa, jus_nwa, jkd_cpa, jln_cpa, jfi_cpa, jfl_cpa, jfr_cpa, jai_cpa, jal_cpa, jar_cpa, jsz_cpa, jus_cpa]; omega, by simp only [jkd_wfi, jln_wfi, jfi_wfi, jfl_wfi, jfr_wfi, jai_wfi, jal_wfi, jar_wfi, jsz_wfi, jus_wfi, jkd_wfl, jln_wfl, jfi_wfl, jfl_wfl, jfr_wfl, jai_wfl, jal_wfl, jar_wfl, jsz_wfl, jus_wfl, jkd_wfr, jln_wfr, jfi_wfr, jfl_wfr, jfr_wfr, jai_wfr, jal_wfr, jar_wfr, jsz_wfr, jus_wfr, jkd_wai, jln_wai, jfi_wai, jfl_wai, jfr_wai, jai_wai, jal_wai, jar_wai, jsz_wai, jus_wai, jkd_wal, jln_wal, jfi_wal, jfl_wal, jfr_wal, jai_wal, jal_wal, jar_wal, jsz_wal, jus_wal, jkd_war, jln_war, jfi_war, jfl_war, jfr_war, jai_war, jal_war, jar_war, jsz_war, jus_war, jkd_nwo, jln_nwo, jfi_nwo, jfl_nwo, jfr_nwo, jai_nwo, jal_nwo, jar_nwo, jsz_nwo, jus_nwo, jkd_nwa, jln_nwa, jfi_nwa, jfl_nwa, jfr_nwa, jai_nwa, jal_nwa, jar_nwa, jsz_nwa, jus_nwa, jkd_cpa, jln_cpa, jfi_cpa, jfl_cpa, jfr_cpa, jai_cpa, jal_cpa, jar_cpa, jsz_cpa, jus_cpa, show r ≠ jsz h + 1 by omega, if_false]; exact u.2.1, u.2.2⟩
theorem ArR.nO {kk N : Nat} {l : List Nat} (ar : ArR h ρ r l) (u : ArU h r) : ArR (nwo h kk N) ρ r l := ar.of (same_nwo u.1)
theorem ArR.put {l : List Nat} {x v : Nat} (ar : ArR h ρ r l) (hv : v = ρ x) (hl : l.length < jln h r) : ArR (war h r l.length v) ρ r (l ++ [x]) := by
  refine ⟨ar.1, ar.2.1, by simp only [jkd_wfi, jln_wfi, jfi_wfi, jfl_wfi, jfr_wfi, jai_wfi, jal_wfi, jar_wfi, jsz_wfi, jus_wfi, jkd_wfl, jln_wfl, jfi_wfl, jfl_wfl, jfr_wfl, jai_wfl, jal_wfl, jar_wfl, jsz_wfl, jus_wfl, jkd_wfr, jln_wfr, jfi_wfr, jfl_wfr, jfr_wfr, jai_wfr, jal_wfr, jar_wfr, jsz_wfr, jus_wfr, jkd_wai, jln_wai, jfi_wai, jfl_wai, jfr_wai, jai_wai, jal_wai, jar_wai, jsz_wai, jus_wai, jkd_wal, jln_wal, jfi_wal, jfl_wal, jfr_wal, jai_wal, jal_wal, jar_wal, jsz_wal, jus_wal, jkd_war, jln_war, jfi_war, jfl_war, jfr_war, jai_war, jal_war, jar_war, jsz_war, jus_war, jkd_nwo, jln_nwo, jfi_nwo, jfl_nwo, jfr_nwo, jai_nwo, jal_nwo, jar_nwo, jsz_nwo, jus_nwo, jkd_nwa, jln_nwa, jfi_nwa, jfl_nwa, jfr_nwa, jai_nwa, jal_nwa, jar_nwa, jsz_nwa, jus_nwa, jkd_cpa, jln_cpa, jfi_cpa, jfl_cpa, jfr_cpa, jai_cpa, jal_cpa, jar_cpa, jsz_cpa, jus_cpa, List.length_append, List.length_singleton]; omega, ar.2.2.2.1, fun i y hy => ?_⟩
  simp only [jkd_wfi, jln_wfi, jfi_wfi, jfl_wfi, jfr_wfi, jai_wfi, jal_wfi, jar_wfi, jsz_wfi, jus_wfi, jkd_wfl, jln_wfl, jfi_wfl, jfl_wfl, jfr_wfl, jai_wfl, jal_wfl, jar_wfl, jsz_wfl, jus_wfl, jkd_wfr, jln_wfr, jfi_wfr, jfl_wfr, jfr_wfr, jai_wfr, jal_wfr, jar_wfr, jsz_wfr, jus_wfr, jkd_wai, jln_wai, jfi_wai, jfl_wai, jfr_wai, jai_wai, jal_wai, jar_wai, jsz_wai, jus_wai, jkd_wal, jln_wal, jfi_wal, jfl_wal, jfr_wal, jai_wal, jal_wal, jar_wal, jsz_wal, jus_wal, jkd_war, jln_war, jfi_war, jfl_war, jfr_war, jai_war, jal_war, jar_war, jsz_war, jus_war, jkd_nwo, jln_nwo, jfi_nwo, jfl_nwo, jfr_nwo, jai_nwo, jal_nwo, jar_nwo, jsz_nwo, jus_nwo, jkd_nwa, jln_nwa, jfi_nwa, jfl_nwa, jfr_nwa, jai_nwa, jal_nwa, jar_nwa, jsz_nwa, jus_nwa, jkd_cpa, jln_cpa, jfi_cpa, jfl_cpa, jfr_cpa, jai_cpa, jal_cpa, jar_cpa, jsz_cpa, jus_cpa, true_and]
  by_cases e : i = l.length
  · rw [if_pos e]
    rw [e, List.getElem?_append_right (Nat.le_refl _), Nat.sub_self] at hy
    cases hy
    exact hv
  · rw [if_neg e]
    have : i < l.length := by
      have := (List.getElem?_eq_some_iff.mp hy).1
      simp at this
      omega
    rw [List.getElem?_append_left this] at hy
    exact ar.2.2.2.2 i y hy
theorem ArU.put {i v : Nat} (u : ArU h r) : ArU (war h r i v) r := u
theorem POk.sto {i v : Nat} (k : POk D p s a base src h0 h σ0 σ ρ0 ρ n m) (hI : JInv D h) (hI0 : JInv D h0) (hs : s ≤ jsz h0) (u : ArU h r) (hr : jsz h0 < r) : POk D p s a base src h0 (war h r i v) σ0 σ ρ0 ρ n m := by
  obtain ⟨q1, q2, q3, q4, q5, q6, q7, q8, q9, q10⟩ := k.1.kinds hI
  have u2 := u.2.1
  have ne : ∀ q, jkd h q ≠ 222 → same h (war h r i v) q := fun q z => same_war fun e => z (e ▸ u2)
  have st : ∀ q w, StR h q w → StR (war h r i v) q w := fun q w z => by
    have z1 := z.2.1
    have z2 := z.2.2.2.2.1
    exact z.of (ne q (by omega)) (ne _ (by omega))
  have k1 : PsR D p s a base src (war h r i v) σ ρ := by
    refine k.1.of (ne p (by omega)) (ne s (by omega)) (ne a (by omega)) (ne _ (by omega)) (fun z => ne _ (by rw [q5 z]; omega)) st (k.1.2.2.2.1.new fun _ _ => rfl) fun j hj => ?_
    have kj := k.1.2.2.2.2.1 j hj
    have nk := nkd_ex (nat_ (psA σ) j)
    have k2 := kj.2.1
    refine kj.of ⟨ne _ (by omega), fun F hF z => ?_, fun _ _ => same_war (u.2.2 _), st⟩
    have ck : jkd h (jfr h F (ρ j)) = 98 ∨ jkd h (jfr h F (ρ j)) = 99 := by
      rcases hF with rfl | rfl
      · exact Or.inl (hI.ref (F := 108) (by decide +kernel) z)
      · exact Or.inr (hI.ref (F := 115) (by decide +kernel) z)
    exact ⟨ne _ (by omega), fun z1 => ne _ (by rw [hI.ref (F := 67) (k := 144) (by decide +kernel) z1]; decide)⟩
  exact ⟨k1, k.2.1.fresh hI hr (fr_war (Or.inl rfl)) (Nat.le_refl _) hs hI0.refl ⟨by omega, by omega, by omega, by omega⟩ hI0 fun _ => Or.inl rfl, k.2.2.1, (k.2.2.2.1.tr Sp.ar).mono (by omega) (by omega), k.2.2.2.2⟩
theorem PsR.ne0 (k : PsR D p s a base src h σ ρ) {i : Nat} (hi : i < (psA σ).length) : ρ i ≠ 0 := (k.2.2.2.2.1 i hi).1
/-! the comparisons -/
def cmpW (w : Str) : Option Nat := if w == sStr "=" then some 0 else if w == sStr "<>" then some 1 else if w == sStr "<" then some 2 else if w == sStr "<=" then some 3 else if w == sStr ">" then some 4 else if w == sStr ">=" then some 5 else none
theorem pCmp_eq : pCmp σ = if tkK (psT σ) = 6 then cmpW (tkW (psT σ)) else none := by
  unfold pCmp
  by_cases e : tkK (psT σ) = 6
  · rw [if_pos (by simpa using e), if_pos e]
    have hi : ∀ s, pIs σ s = (tkW (psT σ) == sStr s) := fun s => by unfold pIs; rw [e]; rfl
    simp only [hi]
    rfl
  · rw [if_neg (by simpa using e), if_neg e]
def cmpR (D : JD) (w : Str) : Nat := match cmpW w with
  | some k => jcs D (364 + k)
  | none => 0
theorem k_cmp154 {Q : JO → JH → Prop} {k : Nat} (hk : k < 6) (hQ : Q (.inl (some (vR 54 (jcs D (364 + k))))) h) : W_X17_comparison_154 D d Q (nI k) h := by
  rcases (show k = 0 ∨ k = 1 ∨ k = 2 ∨ k = 3 ∨ k = 4 ∨ k = 5 by omega) with rfl | rfl | rfl | rfl | rfl | rfl
  · exact ⟨fun _ => hQ, fun z => absurd z (by decide), fun z => absurd z (by decide), fun z => absurd z (by decide), fun z => absurd z (by decide), fun z => absurd z (by decide), fun z => absurd rfl z⟩
  · exact ⟨fun z => absurd z (by decide), fun _ => hQ, fun z => absurd z (by decide), fun z => absurd z (by decide), fun z => absurd z (by decide), fun z => absurd z (by decide), fun _ z => absurd rfl z⟩
  · exact ⟨fun z => absurd z (by decide), fun z => absurd z (by decide), fun _ => hQ, fun z => absurd z (by decide), fun z => absurd z (by decide), fun z => absurd z (by decide), fun _ _ z => absurd rfl z⟩
  · exact ⟨fun z => absurd z (by decide), fun z => absurd z (by decide), fun z => absurd z (by decide), fun _ => hQ, fun z => absurd z (by decide), fun z => absurd z (by decide), fun _ _ _ z => absurd rfl z⟩
  · exact ⟨fun z => absurd z (by decide), fun z => absurd z (by decide), fun z => absurd z (by decide), fun z => absurd z (by decide), fun _ => hQ, fun z => absurd z (by decide), fun _ _ _ _ z => absurd rfl z⟩
  · exact ⟨fun z => absurd z (by decide), fun z => absurd z (by decide), fun z => absurd z (by decide), fun z => absurd z (by decide), fun z => absurd z (by decide), fun _ => hQ, fun _ _ _ _ _ z => absurd rfl z⟩
theorem k_cmp0 {Q : JO → JH → Prop} (hQ : Q (.inl (some (vR 54 0))) h) : W_X17_comparison_154 D d Q (-1) h :=
  ⟨fun z => absurd z (by decide), fun z => absurd z (by decide), fun z => absurd z (by decide), fun z => absurd z (by decide), fun z => absurd z (by decide), fun z => absurd z (by decide), fun _ _ _ _ _ _ => hQ⟩
def cmps : List Str := ["=", "<>", "<", "<=", ">", ">="].map sStr
theorem cmpW_none {w : Str} (hw : w ∉ cmps) : cmpW w = none := by
  unfold cmpW
  have : ∀ s, s ∈ cmps → (w == s) = false := fun s hs => beq_eq_false_iff_ne.mpr fun e => hw (e ▸ hs)
  simp [this (sStr "=") (by decide), this (sStr "<>") (by decide), this (sStr "<") (by decide), this (sStr "<=") (by decide), this (sStr ">") (by decide), this (sStr ">=") (by decide)]
theorem k_cmpC {h1 : JH} {r j k : Nat} {w : Str} {H x : Int32} (hI : JInv D h1) (hs : StR h1 r w) (hj : j < 345) (hH : jhash w = H) (hk : k < 6) (hx : x = nI k) (hm : cmpW (jcon j) = some k) (hu : ∀ q ∈ cmps, jhash q = H → q = jcon j) (hh : HS h h1) :
    cJ5_equals D (d + 2) r (jcs D j) h1 (pI D h1 (fun v h2 => (v = 0 → W_X17_comparison_154 D (d + 2) (pR D h 54 (fun v h' => v = cmpR D w ∧ HS h h') no) (-1) h2) ∧ (¬ v = 0 → W_X17_comparison_154 D (d + 2) (pR D h 54 (fun v h' => v = cmpR D w ∧ HS h h') no) x h2)) (jth (pR D h 54 (fun v h' => v = cmpR D w ∧ HS h h') no))) := by
  refine useI0 (k_equals (d := d) hs (k_const hI hj)) ?_
  rintro v h2 _ _ ⟨rfl, rfl⟩
  by_cases e : w = jcon j
  · refine ⟨fun z => absurd z (by rw [if_pos e]; decide), fun _ => ?_⟩
    rw [hx]
    refine k_cmp154 hk (endR fun _ _ _ => ⟨?_, hh⟩)
    unfold cmpR
    rw [e, hm]
  · refine ⟨fun _ => k_cmp0 (endR fun _ _ _ => ⟨?_, hh⟩), fun z => absurd (by rw [if_neg e]) z⟩
    unfold cmpR
    rw [cmpW_none fun q => e (hu w q hH)]
theorem k_comparison {r : Nat} {w : Str} (hs : StR h r w) (hd : 5 ≤ d) : cX17_comparison D d r h (pR D h 54 (fun v h' => v = cmpR D w ∧ HS h h') no) := by
  refine JW.up (n := 5) (fun d => t_X17_comparison ⟨hs.1, useI0 (k_hash hs) ?_⟩) hd
  rintro v h1 hI1 _ ⟨rfl, hh⟩
  have hs1 := hh.st hs
  refine ⟨fun z => k_cmpC hI1 hs1 (by decide) z (k := 2) (by decide) rfl (by decide +kernel) (by decide +kernel) hh, fun z => k_cmpC hI1 hs1 (by decide) z (k := 0) (by decide) rfl (by decide +kernel) (by decide +kernel) hh, fun z => k_cmpC hI1 hs1 (by decide) z (k := 4) (by decide) rfl (by decide +kernel) (by decide +kernel) hh, fun z => k_cmpC hI1 hs1 (by decide) z (k := 3) (by decide) rfl (by decide +kernel) (by decide +kernel) hh, fun z => k_cmpC hI1 hs1 (by decide) z (k := 1) (by decide) rfl (by decide +kernel) (by decide +kernel) hh, fun z => k_cmpC hI1 hs1 (by decide) z (k := 5) (by decide) rfl (by decide +kernel) (by decide +kernel) hh, ?_⟩
  intro z1 z2 z3 z4 z5 z6
  refine k_cmp0 (endR fun _ _ _ => ⟨?_, hh⟩)
  unfold cmpR
  rw [cmpW_none]
  intro q
  have key : ∀ q ∈ cmps, jhash q = 60 ∨ jhash q = 61 ∨ jhash q = 62 ∨ jhash q = 1921 ∨ jhash q = 1922 ∨ jhash q = 1983 := by decide +kernel
  rcases key w q with y | y | y | y | y | y
  · exact z1 y
  · exact z2 y
  · exact z3 y
  · exact z4 y
  · exact z5 y
  · exact z6 y
end
