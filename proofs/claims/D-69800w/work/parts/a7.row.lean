/-! the parser of the component: DELETE -/
section
variable {D : JD} {p s a base : Nat} {src : Str} {h h' h'' h0 : JH} {σ σ' σ'' σ0 : PS} {ρ ρ' ρ'' ρ0 : Nat → Nat} {n m n' m' : Int} {d c r w arr : Nat}
/-- the heap behind Rowwise.<init> -/
def rwH (h : JH) (r w : Nat) : JH := wfr (wfr (wfr (nwo h 31 5) 130 r (jsz h + 1)) 129 r w) 136 (jsz h + 1) w
theorem k_rowInit (r0 : r ≠ 0) : cX36_init D (d + 2) r w h (pV D h (fun h' => h' = rwH h r w) no) := by
  refine t_X36_init ⟨r0, t_X20_init ⟨r0, endV fun _ _ => ?_⟩⟩
  rintro r1 h1 rfl rfl
  refine t_X38_init ⟨Nat.succ_ne_zero _, endV fun _ _ => ?_⟩
  rintro h2 rfl h3 rfl
  have e : jfr (wfr (wfr (nwo h 31 5) 130 r (jsz h + 1)) 129 r w) 130 r = jsz h + 1 := by simp only [jkd_wfi, jln_wfi, jfi_wfi, jfl_wfi, jfr_wfi, jai_wfi, jal_wfi, jar_wfi, jsz_wfi, jus_wfi, jkd_wfl, jln_wfl, jfi_wfl, jfl_wfl, jfr_wfl, jai_wfl, jal_wfl, jar_wfl, jsz_wfl, jus_wfl, jkd_wfr, jln_wfr, jfi_wfr, jfl_wfr, jfr_wfr, jai_wfr, jal_wfr, jar_wfr, jsz_wfr, jus_wfr, jkd_wai, jln_wai, jfi_wai, jfl_wai, jfr_wai, jai_wai, jal_wai, jar_wai, jsz_wai, jus_wai, jkd_wal, jln_wal, jfi_wal, jfl_wal, jfr_wal, jai_wal, jal_wal, jar_wal, jsz_wal, jus_wal, jkd_war, jln_war, jfi_war, jfl_war, jfr_war, jai_war, jal_war, jar_war, jsz_war, jus_war, jkd_nwo, jln_nwo, jfi_nwo, jfl_nwo, jfr_nwo, jai_nwo, jal_nwo, jar_nwo, jsz_nwo, jus_nwo, jkd_nwa, jln_nwa, jfi_nwa, jfl_nwa, jfr_nwa, jai_nwa, jal_nwa, jar_nwa, jsz_nwa, jus_nwa, jkd_cpa, jln_cpa, jfi_cpa, jfl_cpa, jfr_cpa, jai_cpa, jal_cpa, jar_cpa, jsz_cpa, jus_cpa, Nat.reduceEqDiff, false_and, if_false, and_self, if_true]
  rw [e]
  refine ⟨Nat.succ_ne_zero _, ?_⟩
  rintro h4 rfl
  exact endV fun _ _ => rfl
/-- a source without a table yet -/
def SrcN (h : JH) (q : Nat) (t : Str) : Prop := q ≠ 0 ∧ jkd h q = 31 ∧ StR h (jfr h 136 q) t ∧ jfi h 139 q = 0 ∧ jfr h 140 q = 0
/-- UPDATE and DELETE: name, source -/
def RwR (h : JH) (v : Nat) (t : Str) : Prop := StR h (jfr h 129 v) t ∧ SrcN h (jfr h 130 v) t
theorem SrcN.of {q : Nat} {t : Str} (k : SrcN h q t) (sm : same h h' q) (st : ∀ q w, StR h q w → StR h' q w) : SrcN h' q t := by
  obtain ⟨k1, k2, k3, k4, k5⟩ := k
  exact ⟨k1, by rw [sm.kd]; exact k2, by rw [sm.fr]; exact st _ _ k3, by rw [sm.fi]; exact k4, by rw [sm.fr]; exact k5⟩
theorem RwR.of {v : Nat} {t : Str} (k : RwR h v t) (sm : same h h' v) (sq : ∀ q, jkd h q = 31 → same h h' q) (st : ∀ q w, StR h q w → StR h' q w) : RwR h' v t :=
  ⟨by rw [sm.fr]; exact st _ _ k.1, by rw [sm.fr]; exact k.2.of (sq _ k.2.2.1) st⟩
/-- Rowwise.<init> of an object that is new since h0 -/
theorem row_init {t : Str} (k : POk D p s a base src h0 h σ0 σ ρ0 ρ n m) (hI : JInv D h) (hI0 : JInv D h0) (hs : s ≤ jsz h0) (hk : jkd h r = 30 ∨ jkd h r = 32) (hr : jsz h0 < r) (st : StR h w t) :
    POk D p s a base src h0 (rwH h r w) σ0 σ ρ0 ρ (n + 1) (m + 5) ∧ JInv D (rwH h r w) ∧ RwR (rwH h r w) r t ∧ (∀ q, q ≤ jsz h → q ≠ r → same h (rwH h r w) q) ∧ jkd (rwH h r w) r = jkd h r ∧ jsz (rwH h r w) = jsz h + 1 := by
  have lt0 : jsz h0 ≤ jsz h := k.2.1.2.2.2.1.1
  have hI1 := hI.nO (k := 31) (N := 5) (by decide)
  have n1 := k.nO (kk := 31) (N := 5) hI hI0 hs rfl
  have sk1 : jkd (nwo h 31 5) (jsz h + 1) = 31 := by simp only [jkd_wfi, jln_wfi, jfi_wfi, jfl_wfi, jfr_wfi, jai_wfi, jal_wfi, jar_wfi, jsz_wfi, jus_wfi, jkd_wfl, jln_wfl, jfi_wfl, jfl_wfl, jfr_wfl, jai_wfl, jal_wfl, jar_wfl, jsz_wfl, jus_wfl, jkd_wfr, jln_wfr, jfi_wfr, jfl_wfr, jfr_wfr, jai_wfr, jal_wfr, jar_wfr, jsz_wfr, jus_wfr, jkd_wai, jln_wai, jfi_wai, jfl_wai, jfr_wai, jai_wai, jal_wai, jar_wai, jsz_wai, jus_wai, jkd_wal, jln_wal, jfi_wal, jfl_wal, jfr_wal, jai_wal, jal_wal, jar_wal, jsz_wal, jus_wal, jkd_war, jln_war, jfi_war, jfl_war, jfr_war, jai_war, jal_war, jar_war, jsz_war, jus_war, jkd_nwo, jln_nwo, jfi_nwo, jfl_nwo, jfr_nwo, jai_nwo, jal_nwo, jar_nwo, jsz_nwo, jus_nwo, jkd_nwa, jln_nwa, jfi_nwa, jfl_nwa, jfr_nwa, jai_nwa, jal_nwa, jar_nwa, jsz_nwa, jus_nwa, jkd_cpa, jln_cpa, jfi_cpa, jfl_cpa, jfr_cpa, jai_cpa, jal_cpa, jar_cpa, jsz_cpa, jus_cpa, if_true]
  have rl : r ≤ jsz h := hI.lt (by omega)
  have kr : jkd (nwo h 31 5) r = jkd h r := (same_nwo rl).kd
  have sr : skd (jkd (nwo h 31 5) r) = true := by rw [kr]; rcases hk with e | e <;> rw [e] <;> decide
  have br : jbs D < r := hI.2.1 _ (by rcases hk with e | e <;> rw [e] <;> decide)
  have b1 : jbs D < jsz h + 1 := by omega
  have sl := st.lt hI
  have y1 := st.2.1
  have y2 := st.2.2.2.2.1
  have hI2 : JInv D (wfr (nwo h 31 5) 130 r (jsz h + 1)) := hI1.wfr br (by show r ≤ jsz h + 1; omega) (Or.inr (by rw [sk1]; decide))
  have n2 : POk D p s a base src h0 (wfr (nwo h 31 5) 130 r (jsz h + 1)) σ0 σ ρ0 ρ _ _ := n1.sfr hI1 hI0 hs sr hr
  have kw : jkd (nwo h 31 5) w = jkd h w := (same_nwo sl.1).kd
  have hI3 : JInv D (wfr (wfr (nwo h 31 5) 130 r (jsz h + 1)) 129 r w) := hI2.wfr br (by show r ≤ jsz h + 1; omega) (Or.inr (by
    show sbt (jkd (nwo h 31 5) w) _ = true
    rw [kw]; rcases y1 with y | y <;> rw [y] <;> decide))
  have n3 : POk D p s a base src h0 (wfr (wfr (nwo h 31 5) 130 r (jsz h + 1)) 129 r w) σ0 σ ρ0 ρ _ _ := n2.sfr hI2 hI0 hs sr hr
  have hI4 : JInv D (rwH h r w) := hI3.wfr b1 (Nat.le_refl _) (Or.inr (by
    show sbt (jkd (nwo h 31 5) w) _ = true
    rw [kw]; rcases y1 with y | y <;> rw [y] <;> decide))
  have n4 : POk D p s a base src h0 (rwH h r w) σ0 σ ρ0 ρ _ _ := n3.sfr hI3 hI0 hs (by show skd (jkd (nwo h 31 5) (jsz h + 1)) = true; rw [sk1]; decide) (by omega)
  have fa : ∀ q, q ≤ jsz h → q ≠ r → same h (rwH h r w) q := fun q hq hn => (((same_nwo hq).tr (same_wfr hn)).tr (same_wfr hn)).tr (same_wfr (by omega))
  have stw : StR (rwH h r w) w t := st.of (fa _ sl.1 fun e => by rw [e] at y1; omega) (fa _ sl.2 fun e => by rw [e] at y2; omega)
  have nr : r ≠ jsz h + 1 := by omega
  have e29 : jfr (rwH h r w) 129 r = w := by simp only [rwH, jkd_wfi, jln_wfi, jfi_wfi, jfl_wfi, jfr_wfi, jai_wfi, jal_wfi, jar_wfi, jsz_wfi, jus_wfi, jkd_wfl, jln_wfl, jfi_wfl, jfl_wfl, jfr_wfl, jai_wfl, jal_wfl, jar_wfl, jsz_wfl, jus_wfl, jkd_wfr, jln_wfr, jfi_wfr, jfl_wfr, jfr_wfr, jai_wfr, jal_wfr, jar_wfr, jsz_wfr, jus_wfr, jkd_wai, jln_wai, jfi_wai, jfl_wai, jfr_wai, jai_wai, jal_wai, jar_wai, jsz_wai, jus_wai, jkd_wal, jln_wal, jfi_wal, jfl_wal, jfr_wal, jai_wal, jal_wal, jar_wal, jsz_wal, jus_wal, jkd_war, jln_war, jfi_war, jfl_war, jfr_war, jai_war, jal_war, jar_war, jsz_war, jus_war, jkd_nwo, jln_nwo, jfi_nwo, jfl_nwo, jfr_nwo, jai_nwo, jal_nwo, jar_nwo, jsz_nwo, jus_nwo, jkd_nwa, jln_nwa, jfi_nwa, jfl_nwa, jfr_nwa, jai_nwa, jal_nwa, jar_nwa, jsz_nwa, jus_nwa, jkd_cpa, jln_cpa, jfi_cpa, jfl_cpa, jfr_cpa, jai_cpa, jal_cpa, jar_cpa, jsz_cpa, jus_cpa, Nat.reduceEqDiff, false_and, if_false, and_self, if_true]
  have e30 : jfr (rwH h r w) 130 r = jsz h + 1 := by simp only [rwH, jkd_wfi, jln_wfi, jfi_wfi, jfl_wfi, jfr_wfi, jai_wfi, jal_wfi, jar_wfi, jsz_wfi, jus_wfi, jkd_wfl, jln_wfl, jfi_wfl, jfl_wfl, jfr_wfl, jai_wfl, jal_wfl, jar_wfl, jsz_wfl, jus_wfl, jkd_wfr, jln_wfr, jfi_wfr, jfl_wfr, jfr_wfr, jai_wfr, jal_wfr, jar_wfr, jsz_wfr, jus_wfr, jkd_wai, jln_wai, jfi_wai, jfl_wai, jfr_wai, jai_wai, jal_wai, jar_wai, jsz_wai, jus_wai, jkd_wal, jln_wal, jfi_wal, jfl_wal, jfr_wal, jai_wal, jal_wal, jar_wal, jsz_wal, jus_wal, jkd_war, jln_war, jfi_war, jfl_war, jfr_war, jai_war, jal_war, jar_war, jsz_war, jus_war, jkd_nwo, jln_nwo, jfi_nwo, jfl_nwo, jfr_nwo, jai_nwo, jal_nwo, jar_nwo, jsz_nwo, jus_nwo, jkd_nwa, jln_nwa, jfi_nwa, jfl_nwa, jfr_nwa, jai_nwa, jal_nwa, jar_nwa, jsz_nwa, jus_nwa, jkd_cpa, jln_cpa, jfi_cpa, jfl_cpa, jfr_cpa, jai_cpa, jal_cpa, jar_cpa, jsz_cpa, jus_cpa, Nat.reduceEqDiff, false_and, if_false, and_self, if_true]
  have e36 : jfr (rwH h r w) 136 (jsz h + 1) = w := by simp only [rwH, jkd_wfi, jln_wfi, jfi_wfi, jfl_wfi, jfr_wfi, jai_wfi, jal_wfi, jar_wfi, jsz_wfi, jus_wfi, jkd_wfl, jln_wfl, jfi_wfl, jfl_wfl, jfr_wfl, jai_wfl, jal_wfl, jar_wfl, jsz_wfl, jus_wfl, jkd_wfr, jln_wfr, jfi_wfr, jfl_wfr, jfr_wfr, jai_wfr, jal_wfr, jar_wfr, jsz_wfr, jus_wfr, jkd_wai, jln_wai, jfi_wai, jfl_wai, jfr_wai, jai_wai, jal_wai, jar_wai, jsz_wai, jus_wai, jkd_wal, jln_wal, jfi_wal, jfl_wal, jfr_wal, jai_wal, jal_wal, jar_wal, jsz_wal, jus_wal, jkd_war, jln_war, jfi_war, jfl_war, jfr_war, jai_war, jal_war, jar_war, jsz_war, jus_war, jkd_nwo, jln_nwo, jfi_nwo, jfl_nwo, jfr_nwo, jai_nwo, jal_nwo, jar_nwo, jsz_nwo, jus_nwo, jkd_nwa, jln_nwa, jfi_nwa, jfl_nwa, jfr_nwa, jai_nwa, jal_nwa, jar_nwa, jsz_nwa, jus_nwa, jkd_cpa, jln_cpa, jfi_cpa, jfl_cpa, jfr_cpa, jai_cpa, jal_cpa, jar_cpa, jsz_cpa, jus_cpa, and_self, if_true]
  refine ⟨n4, hI4, ⟨by rw [e29]; exact stw, ?_⟩, fa, kr, rfl⟩
  rw [e30]
  refine ⟨Nat.succ_ne_zero _, sk1, by rw [e36]; exact stw, ?_, ?_⟩
  · show jfi h 139 (jsz h + 1) = 0
    exact hI.zi (Nat.lt_succ_self _) 139
  · simp only [rwH, jkd_wfi, jln_wfi, jfi_wfi, jfl_wfi, jfr_wfi, jai_wfi, jal_wfi, jar_wfi, jsz_wfi, jus_wfi, jkd_wfl, jln_wfl, jfi_wfl, jfl_wfl, jfr_wfl, jai_wfl, jal_wfl, jar_wfl, jsz_wfl, jus_wfl, jkd_wfr, jln_wfr, jfi_wfr, jfl_wfr, jfr_wfr, jai_wfr, jal_wfr, jar_wfr, jsz_wfr, jus_wfr, jkd_wai, jln_wai, jfi_wai, jfl_wai, jfr_wai, jai_wai, jal_wai, jar_wai, jsz_wai, jus_wai, jkd_wal, jln_wal, jfi_wal, jfl_wal, jfr_wal, jai_wal, jal_wal, jar_wal, jsz_wal, jus_wal, jkd_war, jln_war, jfi_war, jfl_war, jfr_war, jai_war, jal_war, jar_war, jsz_war, jus_war, jkd_nwo, jln_nwo, jfi_nwo, jfl_nwo, jfr_nwo, jai_nwo, jal_nwo, jar_nwo, jsz_nwo, jus_nwo, jkd_nwa, jln_nwa, jfi_nwa, jfl_nwa, jfr_nwa, jai_nwa, jal_nwa, jar_nwa, jsz_nwa, jus_nwa, jkd_cpa, jln_cpa, jfi_cpa, jfl_cpa, jfr_cpa, jai_cpa, jal_cpa, jar_cpa, jsz_cpa, jus_cpa, Nat.reduceEqDiff, false_and, if_false]
    exact hI.zr (Nat.lt_succ_self _) 140
end
