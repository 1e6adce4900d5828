/-! the parser of the component: UPDATE, its loop -/
section
variable {D : JD} {p s a base : Nat} {src : Str} {h h' h'' h0 : JH} {σ σ' σ'' σ0 : PS} {ρ ρ' ρ'' ρ0 : Nat → Nat} {n m n' m' : Int} {d c r w arr N : Nat} {t nm : Str} {ns : List Str} {xs : List Nat}
theorem sbt_node2 : ∀ k, k < 30 → 20 ≤ k → sbt k (atg 150) = true ∧ sbt k (atg 154) = true ∧ sbt k (atg 155) = true ∧ sbt k (atg 221) = true := by decide +kernel
theorem PsR.nk {x : Nat} (k : PsR D p s a base src h σ ρ) (hx : x < (psA σ).length) : 20 ≤ jkd h (ρ x) ∧ jkd h (ρ x) < 30 := by
  have kx := k.2.2.2.2.1 x hx
  have nk := nkd_ex (nat_ (psA σ) x)
  rw [kx.2.1]
  omega
theorem w_updSet {x : Nat} (k : POk D p s a base src h0 h σ0 σ ρ0 ρ n m) (hI0 : JInv D h0) (hs : s ≤ jsz h0) (u : UpS (jsz h0) h ρ r t ns xs) (hl : ns.length < 10) (st : StR h w nm) (hx : x < (psA σ).length) (hd : 1 ≤ d) :
    cX37_set D d r w (ρ x) h (pV D h (fun h' => POk D p s a base src h0 h' σ0 σ ρ0 ρ n m ∧ UpS (jsz h0) h' ρ r t (ns ++ [nm]) (xs ++ [x])) no) := by
  obtain ⟨e, rfl, he⟩ := dsucc hd
  obtain ⟨⟨u1, u2, u3⟩, u4, ⟨u5, u6, u7⟩, ⟨u8, u9, u10⟩, u11, u12, u13, u14⟩ := u
  refine JW.inv fun hI => t_X37_set ⟨u2, u6.1, by rw [u12, u6.2.2]; exact jin_nI (by omega) (by omega), ?_⟩
  rintro h1 q1
  rw [u12, ixn_nI (by omega)] at q1
  have A1 := u6.2.1
  have A2 := u9.2.1
  have y1 := st.2.1
  have n1 : POk D p s a base src h0 h1 σ0 σ ρ0 ρ n m := by rw [q1]; exact k.sar hI hI0 hs (by rw [A1]; decide) u5
  have hI1 : JInv D h1 := by
    rw [q1]
    refine hI.war (hI.2.1 _ (by rw [A1]; decide)) (hI.lt (by rw [A1]; decide)) (Or.inr ?_)
    rw [A1]; rcases y1 with y | y <;> rw [y] <;> decide
  have f1 : ∀ F q, jfr h1 F q = jfr h F q := fun F q => by rw [q1]; rfl
  have i1 : ∀ F q, jfi h1 F q = jfi h F q := fun F q => by rw [q1]; rfl
  have d1 : ∀ q, jkd h1 q = jkd h q := fun q => by rw [q1]; rfl
  have l1 : ∀ q, jln h1 q = jln h q := fun q => by rw [q1]; rfl
  have s1 : ∀ q, q ≠ jfr h 132 r → same h h1 q := fun q hq => by rw [q1]; exact same_war hq
  rw [f1 133, l1, i1, u12]
  refine ⟨u9.1, by rw [u9.2.2]; exact jin_nI (by omega) (by omega), ?_⟩
  rintro h2 q2
  rw [ixn_nI (by omega)] at q2
  have nk := n1.1.nk hx
  have n2 : POk D p s a base src h0 h2 σ0 σ ρ0 ρ n m := by rw [q2]; exact n1.sar hI1 hI0 hs (by rw [d1, A2]; decide) u8
  have hI2 : JInv D h2 := by
    rw [q2]
    refine hI1.war (hI1.2.1 _ (by rw [d1, A2]; decide)) (hI1.lt (by rw [d1, A2]; decide)) (Or.inr ?_)
    rw [d1 (jfr h 133 r), A2]; exact (sbt_node2 _ nk.2 nk.1).1
  have f2 : ∀ F q, jfr h2 F q = jfr h F q := fun F q => by rw [q2]; exact f1 F q
  have i2 : ∀ F q, jfi h2 F q = jfi h F q := fun F q => by rw [q2]; exact i1 F q
  have d2 : ∀ q, jkd h2 q = jkd h q := fun q => by rw [q2]; exact d1 q
  have s2 : ∀ q, q ≠ jfr h 133 r → same h1 h2 q := fun q hq => by rw [q2]; exact same_war hq
  rintro h3 q3
  rw [i2, u12] at q3
  have n3 : POk D p s a base src h0 h3 σ0 σ ρ0 ρ n m := by rw [q3]; exact n2.sfi hI2 hI0 hs (by rw [d2, u3]; decide) u1
  have s3 : ∀ q, q ≠ r → same h2 h3 q := fun q hq => by rw [q3]; exact same_wfi hq
  have f3 : ∀ F q, jfr h3 F q = jfr h F q := fun F q => by rw [q3]; exact f2 F q
  have all : ∀ q, jkd h q ≠ 149 → jkd h q ≠ 150 → jkd h q ≠ 30 → same h h3 q := fun q z1 z2 z3 =>
    ((s1 q fun e => z1 (by rw [e]; exact A1)).tr (s2 q fun e => z2 (by rw [e]; exact A2))).tr (s3 q fun e => z3 (by rw [e]; exact u3))
  have str : ∀ q z, StR h q z → StR h3 q z := fun q z ks => by
    have z1 := ks.2.1
    have z2 := ks.2.2.2.2.1
    exact ks.of (all q (by omega) (by omega) (by omega)) (all _ (by omega) (by omega) (by omega))
  have ne12 : jfr h 132 r ≠ jfr h 133 r := fun e => by rw [e, A2] at A1; cases A1
  have ne1 : jfr h 132 r ≠ r := fun e => by rw [e, u3] at A1; cases A1
  have ne2 : jfr h 133 r ≠ r := fun e => by rw [e, u3] at A2; cases A2
  have ne3 : jfr h 134 r ≠ r := fun e => by have := u11.2.1; rw [e, u3] at this; cases this
  refine endV fun hI3 _ => ⟨n3, ⟨u1, u2, ?_⟩, ⟨?_, ?_⟩, ?_, ?_, ?_, ?_, by simp; omega, by simp; omega⟩
  · rw [q3]; exact (d2 r).trans u3
  · rw [f3]; exact str _ _ u4.1
  · rw [f3]
    have y := u4.2.2.1
    exact u4.2.of (all _ (by omega) (by omega) (by omega)) str
  · rw [f3]
    refine ⟨u5, ⟨u6.1, ?_, ?_⟩, ?_⟩
    · rw [(s3 _ ne1).kd, d2]; exact A1
    · rw [(s3 _ ne1).ln, (s2 _ ne12).ln, l1]; exact u6.2.2
    · have z1 : StsR h1 (jfr h 132 r) (ns ++ [nm]) := by rw [q1]; exact u7.put st (by rw [A1]; decide)
      have st1 : ∀ q z, StR h1 q z → StR h3 q z := fun q z ks => by
        have z1 := ks.2.1
        have z2 := ks.2.2.2.2.1
        rw [d1] at z1 z2
        exact ks.of ((s2 q fun e => by rw [e] at z1; omega).tr (s3 q fun e => by rw [e] at z1; omega)) ((s2 _ fun e => by rw [e] at z2; omega).tr (s3 _ fun e => by rw [e] at z2; omega))
      exact z1.of ((s2 _ ne12).tr (s3 _ ne1)) st1
  · rw [f3]
    refine ⟨u8, ⟨u9.1, ?_, ?_⟩, ?_⟩
    · rw [(s3 _ ne2).kd, d2]; exact A2
    · rw [(s3 _ ne2).ln, q2]; exact (l1 _).trans u9.2.2
    · have z1 : ExsR h1 ρ (jfr h 133 r) xs := u10.of (s1 _ ne12.symm) fun _ _ => rfl
      have z2 : ExsR h2 ρ (jfr h 133 r) (xs ++ [x]) := by rw [q2, u13]; exact z1.put
      exact z2.of (s3 _ ne2) fun _ _ => rfl
  · rw [f3]
    have y := u11.2.1
    exact u11.of (all _ (by omega) (by omega) (by omega))
  · rw [q3]
    simp only [jkd_wfi, jln_wfi, jfi_wfi, jfl_wfi, jfr_wfi, jai_wfi, jal_wfi, jar_wfi, jsz_wfi, jus_wfi, jkd_wfl, jln_wfl, jfi_wfl, jfl_wfl, jfr_wfl, jai_wfl, jal_wfl, jar_wfl, jsz_wfl, jus_wfl, jkd_wfr, jln_wfr, jfi_wfr, jfl_wfr, jfr_wfr, jai_wfr, jal_wfr, jar_wfr, jsz_wfr, jus_wfr, jkd_wai, jln_wai, jfi_wai, jfl_wai, jfr_wai, jai_wai, jal_wai, jar_wai, jsz_wai, jus_wai, jkd_wal, jln_wal, jfi_wal, jfl_wal, jfr_wal, jai_wal, jal_wal, jar_wal, jsz_wal, jus_wal, jkd_war, jln_war, jfi_war, jfl_war, jfr_war, jai_war, jal_war, jar_war, jsz_war, jus_war, jkd_nwo, jln_nwo, jfi_nwo, jfl_nwo, jfr_nwo, jai_nwo, jal_nwo, jar_nwo, jsz_nwo, jus_nwo, jkd_nwa, jln_nwa, jfi_nwa, jfl_nwa, jfr_nwa, jai_nwa, jal_nwa, jar_nwa, jsz_nwa, jus_nwa, jkd_cpa, jln_cpa, jfi_cpa, jfl_cpa, jfr_cpa, jai_cpa, jal_cpa, jar_cpa, jsz_cpa, jus_cpa, and_self, if_true]
    rw [nI_1]; simp
end
