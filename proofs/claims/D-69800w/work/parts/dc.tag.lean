/-! the component: a tag with a number -/
section
variable {D : JD} {h h' h1 h2 : JH} {d b q r n j : Nat} {s t : List Int32} {K : Nat → Bool}
/-- a string and what it was made with are new -/
def NewT (h h' : JH) : Prop := fr (jsz h) (fun _ => False) h h' ∧ jsz h ≤ jsz h' ∧ jsz h' ≤ jsz h + 4 ∧ jus h' ≤ jus h + 60 ∧ (∀ F q, F ≠ 71 → F ≠ 75 → jfr h' F q = jfr h F q) ∧ ∀ q i, jar h' q i = jar h q i
theorem NewT.kf (a : NewT h h') (hI : JInv D h) : KF K h h' := by
  obtain ⟨a1, a2, a3, a4, a5, a6⟩ := a
  refine ⟨fun q q1 _ _ _ => a1 q q1 (fun z => z), a2, fun q hq => (a1 q (hI.lt hq) (fun z => z)).kd, fun o F x y hF => ?_⟩
  rw [a5 F x (by omega) (by omega), a5 F y (by omega) (by omega)]
  exact o F x y hF
theorem NewT.ot (a : NewT h h') (hI : JInv D h) (o : OT h) : OT h' := by
  obtain ⟨a1, a2, a3, a4, a5, a6⟩ := a
  have ar : ∀ a i, okd (jkd h' a) = true → jar h' a i ≠ 0 → okd (jkd h a) = true := fun a i ha hn => by
    rw [a6] at hn
    have al : a ≤ jsz h := by
      by_cases z : a ≤ jsz h
      · exact z
      · exact absurd ((hI.2.2.2.2.1 a (by omega)).2 i).2.2 hn
    rw [← (a1 a al (fun z => z)).kd]
    exact ha
  refine ⟨fun x y i j hx hy e hn => ?_, fun x y => by rw [a5 45 x (by decide) (by decide), a5 45 y (by decide) (by decide)]; exact o.2 x y⟩
  have kx := ar x i hx hn
  have ky := ar y j hy (by rw [← e]; exact hn)
  rw [a6, a6] at e
  rw [a6] at hn
  exact o.1 x y i j kx ky e hn
theorem w_tag {Q : JO → JH → Prop} {w : String} {g : JH → Int32} (dg : JDg D) (hI : JInv D h) (hj : j < 345 ∧ jcon j = sStr w) (hw : (sStr w).length ≤ 9) (hn : n < 1000) (hg : ∀ h3, fr (jsz h) (fun _ => False) h h3 → g h3 = nI n) (hd : 8 ≤ d) (f : ∀ v h', JInv D h' → StR h' v (sStr w ++ sDigits (Int64.ofNat n)) → jkd h' v = 12 → jsz h < v → NewT h h' → Q (.inl (some (vR 64 v))) h') :
    ∀ (r : Nat) (h1 : JH), r = jsz h + 1 → h1 = nwo h 11 4 → cJ13_init D d r h1 (pV D h1 (fun h2 => cJ13_append_3 D d r (jcs D j) h2 (pR D h2 11 (fun v_15 h_13 => v_15 ≠ 0 ∧ (cJ13_append_2 D d v_15 (g h_13) h_13 (pR D h_13 11 (fun v_19 h_17 => v_19 ≠ 0 ∧ (cJ13_toString D d v_19 h_17 (pR D h_17 64 (fun v_23 h_21 => Q (.inl (some (vR 64 v_23))) h_21) (jth Q)))) (jth Q)))) (jth Q))) (jth Q)) := by
  rintro r h1 rfl rfl
  have kk : jkd (nwo h 11 4) (jsz h + 1) = 11 := by simp only [jkd_wfi, jln_wfi, jfi_wfi, jfl_wfi, jfr_wfi, jai_wfi, jal_wfi, jar_wfi, jsz_wfi, jus_wfi, jkd_wfl, jln_wfl, jfi_wfl, jfl_wfl, jfr_wfl, jai_wfl, jal_wfl, jar_wfl, jsz_wfl, jus_wfl, jkd_wfr, jln_wfr, jfi_wfr, jfl_wfr, jfr_wfr, jai_wfr, jal_wfr, jar_wfr, jsz_wfr, jus_wfr, jkd_wai, jln_wai, jfi_wai, jfl_wai, jfr_wai, jai_wai, jal_wai, jar_wai, jsz_wai, jus_wai, jkd_wal, jln_wal, jfi_wal, jfl_wal, jfr_wal, jai_wal, jal_wal, jar_wal, jsz_wal, jus_wal, jkd_war, jln_war, jfi_war, jfl_war, jfr_war, jai_war, jal_war, jar_war, jsz_war, jus_war, jkd_nwo, jln_nwo, jfi_nwo, jfl_nwo, jfr_nwo, jai_nwo, jal_nwo, jar_nwo, jsz_nwo, jus_nwo, jkd_nwa, jln_nwa, jfi_nwa, jfl_nwa, jfr_nwa, jai_nwa, jal_nwa, jar_nwa, jsz_nwa, jus_nwa, jkd_cpa, jln_cpa, jfi_cpa, jfl_cpa, jfr_cpa, jai_cpa, jal_cpa, jar_cpa, jsz_cpa, jus_cpa, if_true]
  have ez : jsz (nwo h 11 4) = jsz h + 1 := rfl
  have eu : jus (nwo h 11 4) = jus h + 4 := rfl
  have z3 : sz3 n ≤ 3 := by unfold sz3; split <;> (try split) <;> omega
  refine JW.up (n := 2) (fun dd => useV0 (k_sbInit (d := dd) kk (Nat.succ_ne_zero _) (by simp only [jkd_wfi, jln_wfi, jfi_wfi, jfl_wfi, jfr_wfi, jai_wfi, jal_wfi, jar_wfi, jsz_wfi, jus_wfi, jkd_wfl, jln_wfl, jfi_wfl, jfl_wfl, jfr_wfl, jai_wfl, jal_wfl, jar_wfl, jsz_wfl, jus_wfl, jkd_wfr, jln_wfr, jfi_wfr, jfl_wfr, jfr_wfr, jai_wfr, jal_wfr, jar_wfr, jsz_wfr, jus_wfr, jkd_wai, jln_wai, jfi_wai, jfl_wai, jfr_wai, jai_wai, jal_wai, jar_wai, jsz_wai, jus_wai, jkd_wal, jln_wal, jfi_wal, jfl_wal, jfr_wal, jai_wal, jal_wal, jar_wal, jsz_wal, jus_wal, jkd_war, jln_war, jfi_war, jfl_war, jfr_war, jai_war, jal_war, jar_war, jsz_war, jus_war, jkd_nwo, jln_nwo, jfi_nwo, jfl_nwo, jfr_nwo, jai_nwo, jal_nwo, jar_nwo, jsz_nwo, jus_nwo, jkd_nwa, jln_nwa, jfi_nwa, jfl_nwa, jfr_nwa, jai_nwa, jal_nwa, jar_nwa, jsz_nwa, jus_nwa, jkd_cpa, jln_cpa, jfi_cpa, jfl_cpa, jfr_cpa, jai_cpa, jal_cpa, jar_cpa, jsz_cpa, jus_cpa]; exact hI.zi (Nat.lt_succ_self _) 74)) ?_) (by omega)
  rintro h2 hI2 _ ⟨s1, f1, a1, c1, c2, c3, c4, c5⟩
  have kc : StR h2 (jcs D j) (sStr w) := by rw [← hj.2]; exact k_const hI2 hj.1
  refine useR0 (k_sbApp3 s1 kc (by rw [c3]; simp only [List.length_nil]; omega) (by simp only [List.length_nil]; omega) (by omega)) ?_
  rintro v15 h3 hI3 _ ⟨rfl, s3, g3⟩
  rw [List.nil_append] at s3
  rw [c3] at g3
  simp only [List.length_nil, Nat.zero_add] at g3
  have b3 := s3.1
  have cap3 := b3.2.2.2.2.2.2.2.1
  have fr3 : fr (jsz h) (fun _ => False) h h3 := ((fr_nwo (Nat.le_refl _)).tr (f1.mono (by omega) fun q hq z => by omega)).tr (s3.2.1.mono (by omega) fun q hq z => by rcases z with z | z <;> omega)
  rw [hg h3 fr3]
  refine ⟨Nat.succ_ne_zero _, useR0 (k_sbApp2 dg b3 hn (by omega) (by omega) (by omega)) ?_⟩
  rintro v19 h4 hI4 _ ⟨rfl, s4, g4⟩
  have b4 := s4.1
  have cap4 := b4.2.2.2.2.2.2.2.1
  have ll : (sStr w ++ dg3 n).length ≤ 12 := by rw [List.length_append, dg3_len]; omega
  refine ⟨Nat.succ_ne_zero _, JW.up (n := 7) (fun dd => useR0 (k_sbString (d := dd) b4 (by omega)) ?_) (by omega)⟩
  rintro v23 h5 hI5 _ ⟨e5, st5, k12, f5, z5, u5, r5, j5⟩
  have s34 := s3.tr s4
  obtain ⟨_, t2, t3, t4, t5, t6, t7, t8⟩ := s34
  rw [c3] at t5 t6
  have cl : jln h4 (jfr h4 71 (jsz h + 1)) ≤ 24 := by omega
  have lg : Nat.log2 (jln h4 (jfr h4 71 (jsz h + 1)) + 2) ≤ 4 := by
    generalize jln h4 (jfr h4 71 (jsz h + 1)) = m at cl
    have : ∀ m, m ≤ 24 → Nat.log2 (m + 2) ≤ 4 := by decide +kernel
    exact this m cl
  have lg0 : Nat.log2 (16 + 2) = 4 := by decide +kernel
  rw [lg0] at t5
  rw [dg3_spec n hn] at f
  refine f v23 h5 hI5 st5 k12 (by omega) ⟨?_, by omega, by omega, by omega, fun F q hF hG => ?_, fun q i => ?_⟩
  · refine ((((fr_nwo (Nat.le_refl _)).tr (f1.mono (by omega) fun q hq z => ?_)).tr (t2.mono (by omega) fun q hq z => ?_)).tr (f5.mono (by omega) fun q _ z => z))
    · omega
    · rcases z with z | z
      · omega
      · omega
  · rw [r5 F q hG, t7 F q hF, c4 F q hF]
    rfl
  · rw [j5, t8, c5]
    rfl
end
