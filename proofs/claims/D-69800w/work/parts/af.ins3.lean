/-! the parser of the component: INSERT, a new row -/
section
variable {D : JD} {p s a base : Nat} {src : Str} {h h' h'' h0 : JH} {σ σ' σ'' σ0 : PS} {ρ ρ' ρ'' ρ0 : Nat → Nat} {n m n' m' : Int} {d c r w arr N : Nat} {t nm : Str} {ns : List Str} {rs : List (List Nat)}
theorem w_insRow (k : POk D p s a base src h0 h σ0 σ ρ0 ρ n m) (hI0 : JInv D h0) (hs : s ≤ jsz h0) (u : InS (jsz h0) h ρ r t ns rs) (hl : rs.length < 20) (hd : 1 ≤ d) :
    cX23_row D d r h (pV D h (fun h' => POk D p s a base src h0 h' σ0 σ ρ0 ρ (n + 1) (m + 10) ∧ InS (jsz h0) h' ρ r t ns (rs ++ [[]])) no) := by
  obtain ⟨e, rfl, he⟩ := dsucc hd
  obtain ⟨⟨k1, k2, k3⟩, k4, ⟨k5, k6, k7⟩, k8, ⟨k9, k10⟩, ⟨k11, k12⟩, ⟨k13, k13'⟩, k14, k15⟩ := u
  refine JW.inv fun hI => t_X23_row ⟨k2, ?_⟩
  rintro rr h1 rfl q1
  have lt0 : jsz h0 ≤ jsz h := k.2.1.2.2.2.1.1
  have A := k10.2.1
  have lA : jfr h 103 r ≤ jsz h := hI.lt (by rw [A]; decide)
  have n1 : POk D p s a base src h0 h1 σ0 σ ρ0 ρ (n + 1) (m + 10) := by rw [q1]; exact k.nA hI hI0 hs rfl
  have hI1 : JInv D h1 := by rw [q1]; exact hI.nA (by decide)
  have s1 : ∀ q, q ≤ jsz h → same h h1 q := fun q hq => by rw [q1]; exact same_nwa hq
  have sk1 : jkd h1 (jsz h + 1) = 221 := by rw [q1]; simp only [jkd_wfi, jln_wfi, jfi_wfi, jfl_wfi, jfr_wfi, jai_wfi, jal_wfi, jar_wfi, jsz_wfi, jus_wfi, jkd_wfl, jln_wfl, jfi_wfl, jfl_wfl, jfr_wfl, jai_wfl, jal_wfl, jar_wfl, jsz_wfl, jus_wfl, jkd_wfr, jln_wfr, jfi_wfr, jfl_wfr, jfr_wfr, jai_wfr, jal_wfr, jar_wfr, jsz_wfr, jus_wfr, jkd_wai, jln_wai, jfi_wai, jfl_wai, jfr_wai, jai_wai, jal_wai, jar_wai, jsz_wai, jus_wai, jkd_wal, jln_wal, jfi_wal, jfl_wal, jfr_wal, jai_wal, jal_wal, jar_wal, jsz_wal, jus_wal, jkd_war, jln_war, jfi_war, jfl_war, jfr_war, jai_war, jal_war, jar_war, jsz_war, jus_war, jkd_nwo, jln_nwo, jfi_nwo, jfl_nwo, jfr_nwo, jai_nwo, jal_nwo, jar_nwo, jsz_nwo, jus_nwo, jkd_nwa, jln_nwa, jfi_nwa, jfl_nwa, jfr_nwa, jai_nwa, jal_nwa, jar_nwa, jsz_nwa, jus_nwa, jkd_cpa, jln_cpa, jfi_cpa, jfl_cpa, jfr_cpa, jai_cpa, jal_cpa, jar_cpa, jsz_cpa, jus_cpa, if_true]
  have ln1 : jln h1 (jsz h + 1) = 10 := by rw [q1]; simp only [jkd_wfi, jln_wfi, jfi_wfi, jfl_wfi, jfr_wfi, jai_wfi, jal_wfi, jar_wfi, jsz_wfi, jus_wfi, jkd_wfl, jln_wfl, jfi_wfl, jfl_wfl, jfr_wfl, jai_wfl, jal_wfl, jar_wfl, jsz_wfl, jus_wfl, jkd_wfr, jln_wfr, jfi_wfr, jfl_wfr, jfr_wfr, jai_wfr, jal_wfr, jar_wfr, jsz_wfr, jus_wfr, jkd_wai, jln_wai, jfi_wai, jfl_wai, jfr_wai, jai_wai, jal_wai, jar_wai, jsz_wai, jus_wai, jkd_wal, jln_wal, jfi_wal, jfl_wal, jfr_wal, jai_wal, jal_wal, jar_wal, jsz_wal, jus_wal, jkd_war, jln_war, jfi_war, jfl_war, jfr_war, jai_war, jal_war, jar_war, jsz_war, jus_war, jkd_nwo, jln_nwo, jfi_nwo, jfl_nwo, jfr_nwo, jai_nwo, jal_nwo, jar_nwo, jsz_nwo, jus_nwo, jkd_nwa, jln_nwa, jfi_nwa, jfl_nwa, jfr_nwa, jai_nwa, jal_nwa, jar_nwa, jsz_nwa, jus_nwa, jkd_cpa, jln_cpa, jfi_cpa, jfl_cpa, jfr_cpa, jai_cpa, jal_cpa, jar_cpa, jsz_cpa, jus_cpa, if_true]
  have d1 : ∀ q, q ≤ jsz h → jkd h1 q = jkd h q := fun q hq => (s1 q hq).kd
  have rl : r ≤ jsz h := hI.lt (by rw [k3]; decide)
  refine ⟨k10.1, by rw [k13, (s1 _ lA).ln, k10.2.2]; exact jin_nI (by omega) (by omega), ?_⟩
  rintro h2 q2
  rw [k13, ixn_nI (by omega)] at q2
  have n2 : POk D p s a base src h0 h2 σ0 σ ρ0 ρ (n + 1) (m + 10) := by rw [q2]; exact n1.sar hI1 hI0 hs (by rw [d1 _ lA, A]; decide) k9
  have hI2 : JInv D h2 := by
    rw [q2]
    refine hI1.war (hI1.2.1 _ (by rw [d1 _ lA, A]; decide)) (hI1.lt (by rw [d1 _ lA, A]; decide)) (Or.inr ?_)
    rw [sk1, d1 _ lA, A]; decide
  have s2 : ∀ q, q ≠ jfr h 103 r → same h1 h2 q := fun q hq => by rw [q2]; exact same_war hq
  have i2 : ∀ F q, jfi h2 F q = jfi h1 F q := fun F q => by rw [q2]; rfl
  have f2 : ∀ F q, jfr h2 F q = jfr h1 F q := fun F q => by rw [q2]; rfl
  have d2 : ∀ q, jkd h2 q = jkd h1 q := fun q => by rw [q2]; rfl
  rintro h3 q3
  rw [i2, (s1 r rl).fi, k13] at q3
  have n3 : POk D p s a base src h0 h3 σ0 σ ρ0 ρ (n + 1) (m + 10) := by rw [q3]; exact n2.sfi hI2 hI0 hs (by rw [d2, d1 _ rl, k3]; decide) k1
  have s3 : ∀ q, q ≠ r → same h2 h3 q := fun q hq => by rw [q3]; exact same_wfi hq
  have f3 : ∀ F, jfr h3 F r = jfr h F r := fun F => by rw [q3]; exact (f2 F r).trans ((s1 r rl).fr F)
  have all : ∀ q, q ≤ jsz h → jkd h q ≠ 146 → jkd h q ≠ 19 → same h h3 q := fun q ql z1 z3 =>
    ((s1 q ql).tr (s2 q fun e => z1 (by rw [e]; exact A))).tr (s3 q fun e => z3 (by rw [e]; exact k3))
  have str : ∀ q z, StR h q z → StR h3 q z := fun q z ks => by
    have z1 := ks.2.1
    have z2 := ks.2.2.2.2.1
    have sl := ks.lt hI
    exact ks.of (all q sl.1 (by omega) (by omega)) (all _ sl.2 (by omega) (by omega))
  have neA : jfr h 103 r ≠ r := fun e => by rw [e, k3] at A; cases A
  have al2 : ∀ q, jkd h q ≠ 0 → jkd h q ≠ 146 → jkd h q ≠ 19 → same h h3 q := fun q z0 z1 z3 => all q (hI.lt z0) z1 z3
  have s104 := al2 (jfr h 104 r) (by rw [k12.2.1]; decide) (by rw [k12.2.1]; decide) (by rw [k12.2.1]; decide)
  have s101 := al2 (jfr h 101 r) (by rw [k6.2.1]; decide) (by rw [k6.2.1]; decide) (by rw [k6.2.1]; decide)
  have s106 := al2 (jfr h 106 r) (by rw [k14.2.1]; decide) (by rw [k14.2.1]; decide) (by rw [k14.2.1]; decide)
  have arA : ∀ i, jar h3 (jfr h 103 r) i = if i = rs.length then jsz h + 1 else jar h (jfr h 103 r) i := fun i => by
    rw [(s3 _ neA).ar, q2]
    simp only [jkd_wfi, jln_wfi, jfi_wfi, jfl_wfi, jfr_wfi, jai_wfi, jal_wfi, jar_wfi, jsz_wfi, jus_wfi, jkd_wfl, jln_wfl, jfi_wfl, jfl_wfl, jfr_wfl, jai_wfl, jal_wfl, jar_wfl, jsz_wfl, jus_wfl, jkd_wfr, jln_wfr, jfi_wfr, jfl_wfr, jfr_wfr, jai_wfr, jal_wfr, jar_wfr, jsz_wfr, jus_wfr, jkd_wai, jln_wai, jfi_wai, jfl_wai, jfr_wai, jai_wai, jal_wai, jar_wai, jsz_wai, jus_wai, jkd_wal, jln_wal, jfi_wal, jfl_wal, jfr_wal, jai_wal, jal_wal, jar_wal, jsz_wal, jus_wal, jkd_war, jln_war, jfi_war, jfl_war, jfr_war, jai_war, jal_war, jar_war, jsz_war, jus_war, jkd_nwo, jln_nwo, jfi_nwo, jfl_nwo, jfr_nwo, jai_nwo, jal_nwo, jar_nwo, jsz_nwo, jus_nwo, jkd_nwa, jln_nwa, jfi_nwa, jfl_nwa, jfr_nwa, jai_nwa, jal_nwa, jar_nwa, jsz_nwa, jus_nwa, jkd_cpa, jln_cpa, jfi_cpa, jfl_cpa, jfr_cpa, jai_cpa, jal_cpa, jar_cpa, jsz_cpa, jus_cpa, true_and]
    by_cases e : i = rs.length
    · rw [if_pos e, if_pos e]
    · rw [if_neg e, if_neg e]; exact (s1 _ lA).ar i
  have new : same h1 h3 (jsz h + 1) := (s2 _ (by omega)).tr (s3 _ (by omega))
  have old : ∀ i, i < rs.length → jar h (jfr h 103 r) i ≤ jsz h := fun i hi => by
    obtain ⟨row, hr⟩ : ∃ row, rs[i]? = some row := ⟨rs[i], List.getElem?_eq_getElem hi⟩
    exact hI.lt (by rw [(k15.1 i row hr).1.2.1.2.1]; decide)
  refine endV fun hI3 _ => ⟨n3, ⟨k1, k2, ?_⟩, by rw [f3]; exact str _ _ k4, by rw [f3]; exact ⟨k5, k6.of s101, k7.of s101 str⟩, ⟨?_, k8.2⟩, ?_, by rw [f3]; exact ⟨k11, k12.of s104⟩, ⟨?_, by simp; omega⟩, by rw [f3]; exact k14.of s106, ?_⟩
  · rw [q3]; exact (d2 r).trans ((d1 r rl).trans k3)
  · rw [q3]
    simp only [jkd_wfi, jln_wfi, jfi_wfi, jfl_wfi, jfr_wfi, jai_wfi, jal_wfi, jar_wfi, jsz_wfi, jus_wfi, jkd_wfl, jln_wfl, jfi_wfl, jfl_wfl, jfr_wfl, jai_wfl, jal_wfl, jar_wfl, jsz_wfl, jus_wfl, jkd_wfr, jln_wfr, jfi_wfr, jfl_wfr, jfr_wfr, jai_wfr, jal_wfr, jar_wfr, jsz_wfr, jus_wfr, jkd_wai, jln_wai, jfi_wai, jfl_wai, jfr_wai, jai_wai, jal_wai, jar_wai, jsz_wai, jus_wai, jkd_wal, jln_wal, jfi_wal, jfl_wal, jfr_wal, jai_wal, jal_wal, jar_wal, jsz_wal, jus_wal, jkd_war, jln_war, jfi_war, jfl_war, jfr_war, jai_war, jal_war, jar_war, jsz_war, jus_war, jkd_nwo, jln_nwo, jfi_nwo, jfl_nwo, jfr_nwo, jai_nwo, jal_nwo, jar_nwo, jsz_nwo, jus_nwo, jkd_nwa, jln_nwa, jfi_nwa, jfl_nwa, jfr_nwa, jai_nwa, jal_nwa, jar_nwa, jsz_nwa, jus_nwa, jkd_cpa, jln_cpa, jfi_cpa, jfl_cpa, jfr_cpa, jai_cpa, jal_cpa, jar_cpa, jsz_cpa, jus_cpa, Nat.reduceEqDiff, false_and, if_false]
    rw [i2, (s1 r rl).fi]; exact k8.1
  · rw [f3]
    refine ⟨k9, k10.1, ?_, ?_⟩
    · rw [(s3 _ neA).kd, d2, d1 _ lA]; exact A
    · rw [(s3 _ neA).ln, q2]; exact ((s1 _ lA).ln).trans k10.2.2
  · rw [q3]
    simp only [jkd_wfi, jln_wfi, jfi_wfi, jfl_wfi, jfr_wfi, jai_wfi, jal_wfi, jar_wfi, jsz_wfi, jus_wfi, jkd_wfl, jln_wfl, jfi_wfl, jfl_wfl, jfr_wfl, jai_wfl, jal_wfl, jar_wfl, jsz_wfl, jus_wfl, jkd_wfr, jln_wfr, jfi_wfr, jfl_wfr, jfr_wfr, jai_wfr, jal_wfr, jar_wfr, jsz_wfr, jus_wfr, jkd_wai, jln_wai, jfi_wai, jfl_wai, jfr_wai, jai_wai, jal_wai, jar_wai, jsz_wai, jus_wai, jkd_wal, jln_wal, jfi_wal, jfl_wal, jfr_wal, jai_wal, jal_wal, jar_wal, jsz_wal, jus_wal, jkd_war, jln_war, jfi_war, jfl_war, jfr_war, jai_war, jal_war, jar_war, jsz_war, jus_war, jkd_nwo, jln_nwo, jfi_nwo, jfl_nwo, jfr_nwo, jai_nwo, jal_nwo, jar_nwo, jsz_nwo, jus_nwo, jkd_nwa, jln_nwa, jfi_nwa, jfl_nwa, jfr_nwa, jai_nwa, jal_nwa, jar_nwa, jsz_nwa, jus_nwa, jkd_cpa, jln_cpa, jfi_cpa, jfl_cpa, jfr_cpa, jai_cpa, jal_cpa, jar_cpa, jsz_cpa, jus_cpa, and_self, if_true]
    rw [nI_1]; simp
  · rw [f3, f3]
    refine ⟨fun i row hi => ?_, fun i j hi hj e => ?_, fun i hi => ?_⟩
    · rw [arA]
      rcases get_snoc hi with ⟨e, rfl⟩ | ⟨e, g⟩
      · rw [if_pos e, s104.ai, e]
        exact ⟨⟨by omega, ⟨Nat.succ_ne_zero _, by rw [new.kd]; exact sk1, by rw [new.ln]; exact ln1⟩, fun i x hx => by cases hx⟩, by rw [k15.2.2 _ (Nat.le_refl _)]; rfl, by decide⟩
      · rw [if_neg e, s104.ai]
        obtain ⟨⟨x1, x2, x3⟩, x4, x5⟩ := k15.1 i row g
        have sq := al2 _ (show jkd h (jar h (jfr h 103 r) i) ≠ 0 by rw [x2.2.1]; decide) (by rw [x2.2.1]; decide) (by rw [x2.2.1]; decide)
        exact ⟨⟨x1, x2.of sq, x3.of sq fun _ _ => rfl⟩, x4, x5⟩
    · rw [arA, arA] at e
      simp at hi hj
      by_cases ei : i = rs.length
      · by_cases ej : j = rs.length
        · omega
        · rw [if_pos ei, if_neg ej] at e
          have := old j (by omega)
          omega
      · by_cases ej : j = rs.length
        · rw [if_neg ei, if_pos ej] at e
          have := old i (by omega)
          omega
        · rw [if_neg ei, if_neg ej] at e
          exact k15.2.1 i j (by omega) (by omega) e
    · rw [s104.ai]
      simp at hi
      exact k15.2.2 i (by omega)
end
