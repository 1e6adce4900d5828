/-! the parser of the component: INSERT, names and rows -/
section
variable {D : JD} {p s a base : Nat} {src : Str} {h h' h'' h0 : JH} {σ σ' σ'' σ0 : PS} {ρ ρ' ρ'' ρ0 : Nat → Nat} {n m n' m' : Int} {d c r w arr N : Nat} {t nm : Str} {ns : List Str} {rs : List (List Nat)}
theorem w_insName (k : POk D p s a base src h0 h σ0 σ ρ0 ρ n m) (hI0 : JInv D h0) (hs : s ≤ jsz h0) (u : InS (jsz h0) h ρ r t ns rs) (hl : ns.length < 10) (st : StR h w nm) (hd : 1 ≤ d) :
    cX23_name D d r w h (pV D h (fun h' => POk D p s a base src h0 h' σ0 σ ρ0 ρ n m ∧ InS (jsz h0) h' ρ r t (ns ++ [nm]) rs) no) := by
  obtain ⟨e, rfl, he⟩ := dsucc hd
  obtain ⟨⟨k1, k2, k3⟩, k4, ⟨k5, k6, k7⟩, ⟨k8, k8'⟩, ⟨k9, k10⟩, ⟨k11, k12⟩, k13, k14, k15⟩ := u
  refine JW.inv fun hI => t_X23_name ⟨k2, k6.1, by rw [k8, k6.2.2]; exact jin_nI (by omega) (by omega), ?_⟩
  rintro h1 q1
  rw [k8, ixn_nI (by omega)] at q1
  have A1 := k6.2.1
  have y1 := st.2.1
  have n1 : POk D p s a base src h0 h1 σ0 σ ρ0 ρ n m := by rw [q1]; exact k.sar hI hI0 hs (by rw [A1]; decide) k5
  have hI1 : JInv D h1 := by
    rw [q1]
    refine hI.war (hI.2.1 _ (by rw [A1]; decide)) (hI.lt (by rw [A1]; decide)) (Or.inr ?_)
    rw [A1]; rcases y1 with y | y <;> rw [y] <;> decide
  have f1 : ∀ F q, jfr h1 F q = jfr h F q := fun F q => by rw [q1]; rfl
  have i1 : ∀ F q, jfi h1 F q = jfi h F q := fun F q => by rw [q1]; rfl
  have d1 : ∀ q, jkd h1 q = jkd h q := fun q => by rw [q1]; rfl
  have s1 : ∀ q, q ≠ jfr h 101 r → same h h1 q := fun q hq => by rw [q1]; exact same_war hq
  rintro h3 q3
  rw [i1, k8] at q3
  have n3 : POk D p s a base src h0 h3 σ0 σ ρ0 ρ n m := by rw [q3]; exact n1.sfi hI1 hI0 hs (by rw [d1, k3]; decide) k1
  have s3 : ∀ q, q ≠ r → same h1 h3 q := fun q hq => by rw [q3]; exact same_wfi hq
  have f3 : ∀ F q, jfr h3 F q = jfr h F q := fun F q => by rw [q3]; exact f1 F q
  have all : ∀ q, jkd h q ≠ 145 → jkd h q ≠ 19 → same h h3 q := fun q z1 z3 =>
    (s1 q fun e => z1 (by rw [e]; exact A1)).tr (s3 q fun e => z3 (by rw [e]; exact k3))
  have ne1 : jfr h 101 r ≠ r := fun e => by rw [e, k3] at A1; cases A1
  have str : ∀ q z, StR h q z → StR h3 q z := fun q z ks => by
    have z1 := ks.2.1
    have z2 := ks.2.2.2.2.1
    exact ks.of (all q (by omega) (by omega)) (all _ (by omega) (by omega))
  have str1 : ∀ q z, StR h1 q z → StR h3 q z := fun q z ks => by
    have z1 := ks.2.1
    have z2 := ks.2.2.2.2.1
    rw [d1] at z1 z2
    exact ks.of (s3 q fun e => by rw [e] at z1; omega) (s3 _ fun e => by rw [e] at z2; omega)
  have s103 := all (jfr h 103 r) (by rw [k10.2.1]; decide) (by rw [k10.2.1]; decide)
  have s104 := all (jfr h 104 r) (by rw [k12.2.1]; decide) (by rw [k12.2.1]; decide)
  refine endV fun hI3 _ => ⟨n3, ⟨k1, k2, by rw [q3]; exact (d1 r).trans k3⟩, by rw [f3]; exact str _ _ k4, ?_, ⟨?_, by simp; omega⟩, by rw [f3]; exact ⟨k9, k10.of s103⟩, by rw [f3]; exact ⟨k11, k12.of s104⟩, ⟨?_, k13.2⟩, ?_, ?_⟩
  · rw [f3]
    have z1 : StsR h1 (jfr h 101 r) (ns ++ [nm]) := by rw [q1]; exact k7.put st (by rw [A1]; decide)
    refine ⟨k5, ⟨k6.1, ?_, ?_⟩, z1.of (s3 _ ne1) str1⟩
    · rw [(s3 _ ne1).kd, d1]; exact A1
    · rw [(s3 _ ne1).ln, q1]; exact k6.2.2
  · rw [q3]
    simp only [jkd_wfi, jln_wfi, jfi_wfi, jfl_wfi, jfr_wfi, jai_wfi, jal_wfi, jar_wfi, jsz_wfi, jus_wfi, jkd_wfl, jln_wfl, jfi_wfl, jfl_wfl, jfr_wfl, jai_wfl, jal_wfl, jar_wfl, jsz_wfl, jus_wfl, jkd_wfr, jln_wfr, jfi_wfr, jfl_wfr, jfr_wfr, jai_wfr, jal_wfr, jar_wfr, jsz_wfr, jus_wfr, jkd_wai, jln_wai, jfi_wai, jfl_wai, jfr_wai, jai_wai, jal_wai, jar_wai, jsz_wai, jus_wai, jkd_wal, jln_wal, jfi_wal, jfl_wal, jfr_wal, jai_wal, jal_wal, jar_wal, jsz_wal, jus_wal, jkd_war, jln_war, jfi_war, jfl_war, jfr_war, jai_war, jal_war, jar_war, jsz_war, jus_war, jkd_nwo, jln_nwo, jfi_nwo, jfl_nwo, jfr_nwo, jai_nwo, jal_nwo, jar_nwo, jsz_nwo, jus_nwo, jkd_nwa, jln_nwa, jfi_nwa, jfl_nwa, jfr_nwa, jai_nwa, jal_nwa, jar_nwa, jsz_nwa, jus_nwa, jkd_cpa, jln_cpa, jfi_cpa, jfl_cpa, jfr_cpa, jai_cpa, jal_cpa, jar_cpa, jsz_cpa, jus_cpa, and_self, if_true]
    rw [nI_1]; simp
  · rw [q3]
    simp only [jkd_wfi, jln_wfi, jfi_wfi, jfl_wfi, jfr_wfi, jai_wfi, jal_wfi, jar_wfi, jsz_wfi, jus_wfi, jkd_wfl, jln_wfl, jfi_wfl, jfl_wfl, jfr_wfl, jai_wfl, jal_wfl, jar_wfl, jsz_wfl, jus_wfl, jkd_wfr, jln_wfr, jfi_wfr, jfl_wfr, jfr_wfr, jai_wfr, jal_wfr, jar_wfr, jsz_wfr, jus_wfr, jkd_wai, jln_wai, jfi_wai, jfl_wai, jfr_wai, jai_wai, jal_wai, jar_wai, jsz_wai, jus_wai, jkd_wal, jln_wal, jfi_wal, jfl_wal, jfr_wal, jai_wal, jal_wal, jar_wal, jsz_wal, jus_wal, jkd_war, jln_war, jfi_war, jfl_war, jfr_war, jai_war, jal_war, jar_war, jsz_war, jus_war, jkd_nwo, jln_nwo, jfi_nwo, jfl_nwo, jfr_nwo, jai_nwo, jal_nwo, jar_nwo, jsz_nwo, jus_nwo, jkd_nwa, jln_nwa, jfi_nwa, jfl_nwa, jfr_nwa, jai_nwa, jal_nwa, jar_nwa, jsz_nwa, jus_nwa, jkd_cpa, jln_cpa, jfi_cpa, jfl_cpa, jfr_cpa, jai_cpa, jal_cpa, jar_cpa, jsz_cpa, jus_cpa, Nat.reduceEqDiff, false_and, if_false]
    rw [i1]; exact k13.1
  · rw [f3]; exact k14.of (all _ (by rw [k14.2.1]; decide) (by rw [k14.2.1]; decide))
  · rw [f3, f3]
    exact k15.of s103 s104 (fun q hq => all q (by rw [hq]; decide) (by rw [hq]; decide)) fun _ _ _ _ => rfl
end
