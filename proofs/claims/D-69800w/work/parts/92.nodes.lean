/-! nodes are made -/
def hEx (D : JD) (h : JH) (r : Nat) : JH := wfr (wfr (wfi (wfr (nwo h 98 5) 64 (jsz h + 1) (jcs D 345)) 65 (jsz h + 1) 1) 108 r (jsz h + 1)) 109 r (jcs D 345)
theorem k_cInitE {D : JD} {d : Nat} {h : JH} {c : Nat} (h0 : c ≠ 0) : cX14_init D (d + 1) c h (pV D h (fun h' => h' = wfi (wfr h 64 c (jcs D 345)) 65 c 1) no) := by
  refine t_X14_init ⟨h0, ?_⟩
  rintro h1 rfl h2 rfl
  exact endV fun _ _ => rfl
theorem k_exInit {D : JD} {d : Nat} {h : JH} {r : Nat} (hr : r ≠ 0) : cX24_init D (d + 2) r h (pV D h (fun h' => h' = hEx D h r) no) := by
  refine t_X24_init ⟨hr, ?_⟩
  rintro r1 h1 rfl rfl
  refine useV0 (k_cInitE (d := d) (Nat.succ_ne_zero _)) ?_
  rintro h2 _ _ rfl h3 rfl h4 rfl
  exact endV fun _ _ => rfl
/-- from h to h' the node r has got a cell, and other fields -/
def MkN (D : JD) (h h' : JH) (r : Nat) : Prop :=
  fr (jsz h) (fun q => q = r) h h' ∧ jsz h' = jsz h + 1 ∧ jus h' = jus h + 5 ∧ jfr h' 108 r = jsz h + 1 ∧ jkd h' (jsz h + 1) = 98 ∧ Cel D h' (jsz h + 1) vNull ∧ jkd h' r = jkd h r ∧ (∀ F q, (F = 67 ∨ F = 115) → jfr h' F q = jfr h F q) ∧ (∀ q, q ≠ r → jfr h' 108 q = jfr h 108 q) ∧ jfr h' 67 (jsz h + 1) = 0
theorem MkN.ex {D : JD} {h : JH} {r : Nat} (hI : JInv D h) (hr : r ≤ jsz h) (hk : jkd h r < 96) : MkN D h (hEx D h r) r := by
  have hne : jsz h + 1 ≠ r := by omega
  have hne' : r ≠ jsz h + 1 := by omega
  have e67 : jfr (hEx D h r) 67 (jsz h + 1) = 0 := by
    simp only [hEx, jkd_wfi, jln_wfi, jfi_wfi, jfl_wfi, jfr_wfi, jai_wfi, jal_wfi, jar_wfi, jsz_wfi, jus_wfi, jkd_wfl, jln_wfl, jfi_wfl, jfl_wfl, jfr_wfl, jai_wfl, jal_wfl, jar_wfl, jsz_wfl, jus_wfl, jkd_wfr, jln_wfr, jfi_wfr, jfl_wfr, jfr_wfr, jai_wfr, jal_wfr, jar_wfr, jsz_wfr, jus_wfr, jkd_wai, jln_wai, jfi_wai, jfl_wai, jfr_wai, jai_wai, jal_wai, jar_wai, jsz_wai, jus_wai, jkd_wal, jln_wal, jfi_wal, jfl_wal, jfr_wal, jai_wal, jal_wal, jar_wal, jsz_wal, jus_wal, jkd_war, jln_war, jfi_war, jfl_war, jfr_war, jai_war, jal_war, jar_war, jsz_war, jus_war, jkd_nwo, jln_nwo, jfi_nwo, jfl_nwo, jfr_nwo, jai_nwo, jal_nwo, jar_nwo, jsz_nwo, jus_nwo, jkd_nwa, jln_nwa, jfi_nwa, jfl_nwa, jfr_nwa, jai_nwa, jal_nwa, jar_nwa, jsz_nwa, jus_nwa, jkd_cpa, jln_cpa, jfi_cpa, jfl_cpa, jfr_cpa, jai_cpa, jal_cpa, jar_cpa, jsz_cpa, jus_cpa, Nat.reduceEqDiff, false_and, if_false]; exact hI.zr (Nat.lt_succ_self _) 67
  refine ⟨?_, rfl, rfl, ?_, ?_, ?_, ?_, ?_, ?_, e67⟩
  · exact ((((fr_nwo (M := fun q => q = r) (Nat.le_refl _)).tr (fr_wfr (Or.inr (Nat.lt_succ_self _)))).tr (fr_wfi (Or.inr (Nat.lt_succ_self _)))).tr (fr_wfr (Or.inl rfl))).tr (fr_wfr (Or.inl rfl))
  · simp only [hEx, jkd_wfi, jln_wfi, jfi_wfi, jfl_wfi, jfr_wfi, jai_wfi, jal_wfi, jar_wfi, jsz_wfi, jus_wfi, jkd_wfl, jln_wfl, jfi_wfl, jfl_wfl, jfr_wfl, jai_wfl, jal_wfl, jar_wfl, jsz_wfl, jus_wfl, jkd_wfr, jln_wfr, jfi_wfr, jfl_wfr, jfr_wfr, jai_wfr, jal_wfr, jar_wfr, jsz_wfr, jus_wfr, jkd_wai, jln_wai, jfi_wai, jfl_wai, jfr_wai, jai_wai, jal_wai, jar_wai, jsz_wai, jus_wai, jkd_wal, jln_wal, jfi_wal, jfl_wal, jfr_wal, jai_wal, jal_wal, jar_wal, jsz_wal, jus_wal, jkd_war, jln_war, jfi_war, jfl_war, jfr_war, jai_war, jal_war, jar_war, jsz_war, jus_war, jkd_nwo, jln_nwo, jfi_nwo, jfl_nwo, jfr_nwo, jai_nwo, jal_nwo, jar_nwo, jsz_nwo, jus_nwo, jkd_nwa, jln_nwa, jfi_nwa, jfl_nwa, jfr_nwa, jai_nwa, jal_nwa, jar_nwa, jsz_nwa, jus_nwa, jkd_cpa, jln_cpa, jfi_cpa, jfl_cpa, jfr_cpa, jai_cpa, jal_cpa, jar_cpa, jsz_cpa, jus_cpa, Nat.reduceEqDiff, false_and, if_false, and_self, if_true]
  · simp only [hEx, jkd_wfi, jln_wfi, jfi_wfi, jfl_wfi, jfr_wfi, jai_wfi, jal_wfi, jar_wfi, jsz_wfi, jus_wfi, jkd_wfl, jln_wfl, jfi_wfl, jfl_wfl, jfr_wfl, jai_wfl, jal_wfl, jar_wfl, jsz_wfl, jus_wfl, jkd_wfr, jln_wfr, jfi_wfr, jfl_wfr, jfr_wfr, jai_wfr, jal_wfr, jar_wfr, jsz_wfr, jus_wfr, jkd_wai, jln_wai, jfi_wai, jfl_wai, jfr_wai, jai_wai, jal_wai, jar_wai, jsz_wai, jus_wai, jkd_wal, jln_wal, jfi_wal, jfl_wal, jfr_wal, jai_wal, jal_wal, jar_wal, jsz_wal, jus_wal, jkd_war, jln_war, jfi_war, jfl_war, jfr_war, jai_war, jal_war, jar_war, jsz_war, jus_war, jkd_nwo, jln_nwo, jfi_nwo, jfl_nwo, jfr_nwo, jai_nwo, jal_nwo, jar_nwo, jsz_nwo, jus_nwo, jkd_nwa, jln_nwa, jfi_nwa, jfl_nwa, jfr_nwa, jai_nwa, jal_nwa, jar_nwa, jsz_nwa, jus_nwa, jkd_cpa, jln_cpa, jfi_cpa, jfl_cpa, jfr_cpa, jai_cpa, jal_cpa, jar_cpa, jsz_cpa, jus_cpa, if_true]
  · have e65 : jfi (hEx D h r) 65 (jsz h + 1) = 1 := by simp only [hEx, jkd_wfi, jln_wfi, jfi_wfi, jfl_wfi, jfr_wfi, jai_wfi, jal_wfi, jar_wfi, jsz_wfi, jus_wfi, jkd_wfl, jln_wfl, jfi_wfl, jfl_wfl, jfr_wfl, jai_wfl, jal_wfl, jar_wfl, jsz_wfl, jus_wfl, jkd_wfr, jln_wfr, jfi_wfr, jfl_wfr, jfr_wfr, jai_wfr, jal_wfr, jar_wfr, jsz_wfr, jus_wfr, jkd_wai, jln_wai, jfi_wai, jfl_wai, jfr_wai, jai_wai, jal_wai, jar_wai, jsz_wai, jus_wai, jkd_wal, jln_wal, jfi_wal, jfl_wal, jfr_wal, jai_wal, jal_wal, jar_wal, jsz_wal, jus_wal, jkd_war, jln_war, jfi_war, jfl_war, jfr_war, jai_war, jal_war, jar_war, jsz_war, jus_war, jkd_nwo, jln_nwo, jfi_nwo, jfl_nwo, jfr_nwo, jai_nwo, jal_nwo, jar_nwo, jsz_nwo, jus_nwo, jkd_nwa, jln_nwa, jfi_nwa, jfl_nwa, jfr_nwa, jai_nwa, jal_nwa, jar_nwa, jsz_nwa, jus_nwa, jkd_cpa, jln_cpa, jfi_cpa, jfl_cpa, jfr_cpa, jai_cpa, jal_cpa, jar_cpa, jsz_cpa, jus_cpa, and_self, if_true]
    have ek : jkd (hEx D h r) (jsz h + 1) = 98 := by simp only [hEx, jkd_wfi, jln_wfi, jfi_wfi, jfl_wfi, jfr_wfi, jai_wfi, jal_wfi, jar_wfi, jsz_wfi, jus_wfi, jkd_wfl, jln_wfl, jfi_wfl, jfl_wfl, jfr_wfl, jai_wfl, jal_wfl, jar_wfl, jsz_wfl, jus_wfl, jkd_wfr, jln_wfr, jfi_wfr, jfl_wfr, jfr_wfr, jai_wfr, jal_wfr, jar_wfr, jsz_wfr, jus_wfr, jkd_wai, jln_wai, jfi_wai, jfl_wai, jfr_wai, jai_wai, jal_wai, jar_wai, jsz_wai, jus_wai, jkd_wal, jln_wal, jfi_wal, jfl_wal, jfr_wal, jai_wal, jal_wal, jar_wal, jsz_wal, jus_wal, jkd_war, jln_war, jfi_war, jfl_war, jfr_war, jai_war, jal_war, jar_war, jsz_war, jus_war, jkd_nwo, jln_nwo, jfi_nwo, jfl_nwo, jfr_nwo, jai_nwo, jal_nwo, jar_nwo, jsz_nwo, jus_nwo, jkd_nwa, jln_nwa, jfi_nwa, jfl_nwa, jfr_nwa, jai_nwa, jal_nwa, jar_nwa, jsz_nwa, jus_nwa, jkd_cpa, jln_cpa, jfi_cpa, jfl_cpa, jfr_cpa, jai_cpa, jal_cpa, jar_cpa, jsz_cpa, jus_cpa, if_true]
    exact ⟨⟨Nat.succ_ne_zero _, by rw [ek]; decide, by rw [ek]; decide, Or.inr e65, Or.inl e67⟩, Or.inl ⟨rfl, e65⟩⟩
  · simp only [hEx, jkd_wfi, jln_wfi, jfi_wfi, jfl_wfi, jfr_wfi, jai_wfi, jal_wfi, jar_wfi, jsz_wfi, jus_wfi, jkd_wfl, jln_wfl, jfi_wfl, jfl_wfl, jfr_wfl, jai_wfl, jal_wfl, jar_wfl, jsz_wfl, jus_wfl, jkd_wfr, jln_wfr, jfi_wfr, jfl_wfr, jfr_wfr, jai_wfr, jal_wfr, jar_wfr, jsz_wfr, jus_wfr, jkd_wai, jln_wai, jfi_wai, jfl_wai, jfr_wai, jai_wai, jal_wai, jar_wai, jsz_wai, jus_wai, jkd_wal, jln_wal, jfi_wal, jfl_wal, jfr_wal, jai_wal, jal_wal, jar_wal, jsz_wal, jus_wal, jkd_war, jln_war, jfi_war, jfl_war, jfr_war, jai_war, jal_war, jar_war, jsz_war, jus_war, jkd_nwo, jln_nwo, jfi_nwo, jfl_nwo, jfr_nwo, jai_nwo, jal_nwo, jar_nwo, jsz_nwo, jus_nwo, jkd_nwa, jln_nwa, jfi_nwa, jfl_nwa, jfr_nwa, jai_nwa, jal_nwa, jar_nwa, jsz_nwa, jus_nwa, jkd_cpa, jln_cpa, jfi_cpa, jfl_cpa, jfr_cpa, jai_cpa, jal_cpa, jar_cpa, jsz_cpa, jus_cpa, hne', if_false]
  · rintro F q (rfl | rfl)
    · simp only [hEx, jkd_wfi, jln_wfi, jfi_wfi, jfl_wfi, jfr_wfi, jai_wfi, jal_wfi, jar_wfi, jsz_wfi, jus_wfi, jkd_wfl, jln_wfl, jfi_wfl, jfl_wfl, jfr_wfl, jai_wfl, jal_wfl, jar_wfl, jsz_wfl, jus_wfl, jkd_wfr, jln_wfr, jfi_wfr, jfl_wfr, jfr_wfr, jai_wfr, jal_wfr, jar_wfr, jsz_wfr, jus_wfr, jkd_wai, jln_wai, jfi_wai, jfl_wai, jfr_wai, jai_wai, jal_wai, jar_wai, jsz_wai, jus_wai, jkd_wal, jln_wal, jfi_wal, jfl_wal, jfr_wal, jai_wal, jal_wal, jar_wal, jsz_wal, jus_wal, jkd_war, jln_war, jfi_war, jfl_war, jfr_war, jai_war, jal_war, jar_war, jsz_war, jus_war, jkd_nwo, jln_nwo, jfi_nwo, jfl_nwo, jfr_nwo, jai_nwo, jal_nwo, jar_nwo, jsz_nwo, jus_nwo, jkd_nwa, jln_nwa, jfi_nwa, jfl_nwa, jfr_nwa, jai_nwa, jal_nwa, jar_nwa, jsz_nwa, jus_nwa, jkd_cpa, jln_cpa, jfi_cpa, jfl_cpa, jfr_cpa, jai_cpa, jal_cpa, jar_cpa, jsz_cpa, jus_cpa, Nat.reduceEqDiff, false_and, if_false]
    · simp only [hEx, jkd_wfi, jln_wfi, jfi_wfi, jfl_wfi, jfr_wfi, jai_wfi, jal_wfi, jar_wfi, jsz_wfi, jus_wfi, jkd_wfl, jln_wfl, jfi_wfl, jfl_wfl, jfr_wfl, jai_wfl, jal_wfl, jar_wfl, jsz_wfl, jus_wfl, jkd_wfr, jln_wfr, jfi_wfr, jfl_wfr, jfr_wfr, jai_wfr, jal_wfr, jar_wfr, jsz_wfr, jus_wfr, jkd_wai, jln_wai, jfi_wai, jfl_wai, jfr_wai, jai_wai, jal_wai, jar_wai, jsz_wai, jus_wai, jkd_wal, jln_wal, jfi_wal, jfl_wal, jfr_wal, jai_wal, jal_wal, jar_wal, jsz_wal, jus_wal, jkd_war, jln_war, jfi_war, jfl_war, jfr_war, jai_war, jal_war, jar_war, jsz_war, jus_war, jkd_nwo, jln_nwo, jfi_nwo, jfl_nwo, jfr_nwo, jai_nwo, jal_nwo, jar_nwo, jsz_nwo, jus_nwo, jkd_nwa, jln_nwa, jfi_nwa, jfl_nwa, jfr_nwa, jai_nwa, jal_nwa, jar_nwa, jsz_nwa, jus_nwa, jkd_cpa, jln_cpa, jfi_cpa, jfl_cpa, jfr_cpa, jai_cpa, jal_cpa, jar_cpa, jsz_cpa, jus_cpa, Nat.reduceEqDiff, false_and, if_false]
  · intro q hq
    simp only [hEx, jkd_wfi, jln_wfi, jfi_wfi, jfl_wfi, jfr_wfi, jai_wfi, jal_wfi, jar_wfi, jsz_wfi, jus_wfi, jkd_wfl, jln_wfl, jfi_wfl, jfl_wfl, jfr_wfl, jai_wfl, jal_wfl, jar_wfl, jsz_wfl, jus_wfl, jkd_wfr, jln_wfr, jfi_wfr, jfl_wfr, jfr_wfr, jai_wfr, jal_wfr, jar_wfr, jsz_wfr, jus_wfr, jkd_wai, jln_wai, jfi_wai, jfl_wai, jfr_wai, jai_wai, jal_wai, jar_wai, jsz_wai, jus_wai, jkd_wal, jln_wal, jfi_wal, jfl_wal, jfr_wal, jai_wal, jal_wal, jar_wal, jsz_wal, jus_wal, jkd_war, jln_war, jfi_war, jfl_war, jfr_war, jai_war, jal_war, jar_war, jsz_war, jus_war, jkd_nwo, jln_nwo, jfi_nwo, jfl_nwo, jfr_nwo, jai_nwo, jal_nwo, jar_nwo, jsz_nwo, jus_nwo, jkd_nwa, jln_nwa, jfi_nwa, jfl_nwa, jfr_nwa, jai_nwa, jal_nwa, jar_nwa, jsz_nwa, jus_nwa, jkd_cpa, jln_cpa, jfi_cpa, jfl_cpa, jfr_cpa, jai_cpa, jal_cpa, jar_cpa, jsz_cpa, jus_cpa, Nat.reduceEqDiff, false_and, if_false, hq, and_false]
theorem MkN.fr {D : JD} {h h' : JH} {r F v : Nat} (k : MkN D h h' r) (hr : r ≤ jsz h) (hF : F ≠ 67 ∧ F ≠ 108 ∧ F ≠ 115 := by decide) : MkN D h (wfr h' F r v) r := by
  obtain ⟨k1, k2, k3, k4, k5, k6, k7, k8, k9, k10⟩ := k
  refine ⟨k1.tr (fr_wfr (Or.inl rfl)), k2, k3, ?_, k5, k6.of (same_wfr (by omega)) fun h0 => absurd k10 h0, k7, fun G q hG => ?_, fun q hq => ?_, ?_⟩
  · rw [jfr_wfr, if_neg fun z => hF.2.1 z.1.symm]; exact k4
  · rw [jfr_wfr, if_neg fun z => by rcases hG with rfl | rfl; exact hF.1 z.1.symm; exact hF.2.2 z.1.symm]; exact k8 G q hG
  · rw [jfr_wfr, if_neg fun z => hq z.2]; exact k9 q hq
  · rw [jfr_wfr, if_neg fun z => hF.1 z.1.symm]; exact k10
theorem MkN.fi {D : JD} {h h' : JH} {r F : Nat} {v : Int32} (k : MkN D h h' r) (hr : r ≤ jsz h) : MkN D h (wfi h' F r v) r := by
  obtain ⟨k1, k2, k3, k4, k5, k6, k7, k8, k9, k10⟩ := k
  exact ⟨k1.tr (fr_wfi (Or.inl rfl)), k2, k3, k4, k5, k6.of (same_wfi (by omega)) fun h0 => absurd k10 h0, k7, k8, k9, k10⟩
theorem MkN.ow {D : JD} {h h' : JH} {r : Nat} (hI : JInv D h) (k : MkN D h h' r) (o : OW h) : OW h' := by
  obtain ⟨k1, k2, k3, k4, k5, k6, k7, k8, k9, k10⟩ := k
  rintro F a b hF e1 e2
  by_cases e : F = 108
  · subst e
    by_cases ea : a = r
    · by_cases eb : b = r
      · rw [ea, eb]
      · rw [ea, k4, k9 b eb] at e1
        have := hI.refl (F := 108) (r := b)
        omega
    · by_cases eb : b = r
      · rw [eb, k4, k9 a ea] at e1
        have := hI.refl (F := 108) (r := a)
        omega
      · rw [k9 a ea, k9 b eb] at e1
        rw [k9 a ea] at e2
        exact o 108 a b (by simp) e1 e2
  · have hF' : F = 67 ∨ F = 115 := by
      rcases hF with z | z | z
      · exact Or.inl z
      · exact absurd z e
      · exact Or.inr z
    rw [k8 F a hF', k8 F b hF'] at e1
    rw [k8 F a hF'] at e2
    exact o F a b hF e1 e2
theorem MkN.sp {D : JD} {h h' : JH} {r : Nat} (k : MkN D h h' r) (hk : 20 ≤ jkd h r ∧ jkd h r ≤ 29) : Sp h h' 2 45 := by
  obtain ⟨k1, k2, k3, k4, k5, k6, k7, k8, k9, k10⟩ := k
  refine (Sp.of (n := 1) (m := 5) (fun q h1 h2 => ?_) (by omega) (by omega) (by omega)).mono (by omega) (by omega)
  by_cases e : q = r
  · subst e
    have : (ckd (jkd h q) || vkd (jkd h q)) = false := by
      unfold ckd vkd
      rw [show Nat.ble 96 (jkd h q) = false from Bool.eq_false_iff.mpr fun e => by have := Nat.le_of_ble_eq_true e; omega, show Nat.ble 103 (jkd h q) = false from Bool.eq_false_iff.mpr fun e => by have := Nat.le_of_ble_eq_true e; omega]; rfl
    rw [wq_kd k7 this]; exact Nat.zero_le _
  · exact Nat.le_of_eq (wq_same (k1 q h2 e))
/-- a node that is not made yet -/
def Raw (h : JH) (r : Nat) (k : Nat) : Prop := r ≠ 0 ∧ r ≤ jsz h ∧ jkd h r = k ∧ jfr h 108 r = 0
section
variable {D : JD} {p s a base : Nat} {src : Str} {h h' h'' : JH} {σ σ' σ'' : PS} {ρ ρ' ρ'' : Nat → Nat} {n m n' m' : Int} {d : Nat}
theorem PsR.mk {r kk : Nat} (k : PsR D p s a base src h σ ρ) (hI : JInv D h) (w : Raw h r kk) (hk : 20 ≤ kk ∧ kk ≤ 29) (m : MkN D h h' r) : PsR D p s a base src h' σ ρ :=
  k.fresh hI m.1 (Or.inl ⟨by rw [w.2.2.1]; exact hk.1, by rw [w.2.2.1]; exact hk.2, w.2.2.2⟩) (m.ow hI k.2.2.2.1)
/-- an object that is no node yet stays as it is while the parser goes on -/
theorem Raw.pf {r kk : Nat} (w : Raw h r kk) (hI : JInv D h) (hk : 20 ≤ kk ∧ kk ≤ 29) (hp : jkd h p = 14) (hs : jkd h s = 15) (f : PFr h h' p s) : Raw h' r kk := by
  have := w.2.2.1
  have sm : same h h' r := by
    refine f.1 r w.2.1 ?_
    rintro (z | z | z | z | z)
    · rw [z, hp] at this; omega
    · rw [z, hs] at this; omega
    · rw [z, hI.ref (F := 90) (k := 100) (by decide +kernel) (z ▸ w.1)] at this; omega
    · rw [z, hI.ref (F := 67) (k := 144) (by decide +kernel) (z ▸ w.1)] at this; omega
    · omega
  exact ⟨w.1, Nat.le_trans w.2.1 f.2.2.2.1.1, by rw [sm.kd]; exact w.2.2.1, by rw [sm.fr]; exact w.2.2.2⟩
theorem Raw.new {kk N : Nat} (hI : JInv D h) : Raw (nwo h kk N) (jsz h + 1) kk :=
  ⟨Nat.succ_ne_zero _, Nat.le_refl _, by simp only [jkd_wfi, jln_wfi, jfi_wfi, jfl_wfi, jfr_wfi, jai_wfi, jal_wfi, jar_wfi, jsz_wfi, jus_wfi, jkd_wfl, jln_wfl, jfi_wfl, jfl_wfl, jfr_wfl, jai_wfl, jal_wfl, jar_wfl, jsz_wfl, jus_wfl, jkd_wfr, jln_wfr, jfi_wfr, jfl_wfr, jfr_wfr, jai_wfr, jal_wfr, jar_wfr, jsz_wfr, jus_wfr, jkd_wai, jln_wai, jfi_wai, jfl_wai, jfr_wai, jai_wai, jal_wai, jar_wai, jsz_wai, jus_wai, jkd_wal, jln_wal, jfi_wal, jfl_wal, jfr_wal, jai_wal, jal_wal, jar_wal, jsz_wal, jus_wal, jkd_war, jln_war, jfi_war, jfl_war, jfr_war, jai_war, jal_war, jar_war, jsz_war, jus_war, jkd_nwo, jln_nwo, jfi_nwo, jfl_nwo, jfr_nwo, jai_nwo, jal_nwo, jar_nwo, jsz_nwo, jus_nwo, jkd_nwa, jln_nwa, jfi_nwa, jfl_nwa, jfr_nwa, jai_nwa, jal_nwa, jar_nwa, jsz_nwa, jus_nwa, jkd_cpa, jln_cpa, jfi_cpa, jfl_cpa, jfr_cpa, jai_cpa, jal_cpa, jar_cpa, jsz_cpa, jus_cpa, if_true], by simp only [jkd_wfi, jln_wfi, jfi_wfi, jfl_wfi, jfr_wfi, jai_wfi, jal_wfi, jar_wfi, jsz_wfi, jus_wfi, jkd_wfl, jln_wfl, jfi_wfl, jfl_wfl, jfr_wfl, jai_wfl, jal_wfl, jar_wfl, jsz_wfl, jus_wfl, jkd_wfr, jln_wfr, jfi_wfr, jfl_wfr, jfr_wfr, jai_wfr, jal_wfr, jar_wfr, jsz_wfr, jus_wfr, jkd_wai, jln_wai, jfi_wai, jfl_wai, jfr_wai, jai_wai, jal_wai, jar_wai, jsz_wai, jus_wai, jkd_wal, jln_wal, jfi_wal, jfl_wal, jfr_wal, jai_wal, jal_wal, jar_wal, jsz_wal, jus_wal, jkd_war, jln_war, jfi_war, jfl_war, jfr_war, jai_war, jal_war, jar_war, jsz_war, jus_war, jkd_nwo, jln_nwo, jfi_nwo, jfl_nwo, jfr_nwo, jai_nwo, jal_nwo, jar_nwo, jsz_nwo, jus_nwo, jkd_nwa, jln_nwa, jfi_nwa, jfl_nwa, jfr_nwa, jai_nwa, jal_nwa, jar_nwa, jsz_nwa, jus_nwa, jkd_cpa, jln_cpa, jfi_cpa, jfl_cpa, jfr_cpa, jai_cpa, jal_cpa, jar_cpa, jsz_cpa, jus_cpa]; exact hI.zr (Nat.lt_succ_self _) 108⟩
/-- the node is made: the tree has one more -/
theorem RI.add {n r : Nat} (k : RI ρ n) (hn : ∀ i, i < n → ρ i ≠ r) {A : List Nod} {nd : Nod} (e : n = A.length := by rfl) : RI (rup ρ n r) (A ++ [nd]).length := by
  intro i j hi hj z
  rw [List.length_append, List.length_singleton, ← e] at hi hj
  by_cases c1 : i < n
  · by_cases c2 : j < n
    · rw [rup_lt c1, rup_lt c2] at z
      exact k i j c1 c2 z
    · have : j = n := by omega
      rw [this, rup_lt c1, rup_eq] at z
      exact absurd z (hn i c1)
  · have e1 : i = n := by omega
    by_cases c2 : j < n
    · rw [e1, rup_lt c2, rup_eq] at z
      exact absurd z.symm (hn j c2)
    · omega
/-- what is not yet made is no node -/
theorem PsR.rawNe {r kk : Nat} (k : PsR D p s a base src h σ ρ) (w : Raw h r kk) : ∀ i, i < (psA σ).length → ρ i ≠ r := fun i hi e => (k.2.2.2.2.1 i hi).2.2.1.1 (by rw [e]; exact w.2.2.2)
theorem PsR.node {nd : Nod} {r : Nat} (k : PsR D p s a base src h σ ρ) (kn : NodR D h ρ nd r) (g : Gd src (pNode σ nd).2) (hn : ∀ i, i < (psA σ).length → ρ i ≠ r) : PsR D p s a base src h (pNode σ nd).2 (rup ρ (psA σ).length r) := by
  have hl : (psA σ).length < (psA (pNode σ nd).2).length := by show _ < (psA σ ++ [nd]).length; simp
  have nk := g.2.1 _ hl
  have e : nat_ (psA (pNode σ nd).2) (psA σ).length = nd := nat_last
  obtain ⟨k1, k2, k3, k4, k5, k6, k7, k8, k9, k10⟩ := k
  refine ⟨k1, k2, k3, k4, k5.add k6.2.1 kn ?_ fun x hx => ?_, g, k7, k8, k9, k10.add hn⟩
  · have := nk.2.2.1; rwa [e] at this
  · have := nk.2.1.lt.2 x
    rw [e] at this
    exact (this hx).1
theorem RX.up {n r : Nat} : RX ρ (rup ρ n r) n := fun i hi => rup_lt hi
end
