/-! the parser of the component: CREATE, DROP, WHERE -/
section
variable {D : JD} {p s a base : Nat} {src : Str} {h h' h'' h0 : JH} {σ σ' σ'' σ0 : PS} {ρ ρ' ρ'' ρ0 : Nat → Nat} {n m n' m' : Int} {d c r arr : Nat}
theorem w_create (k : PsR D p s a base src h σ ρ) (hk : tkK (psT σ) ≠ 0) (hd : 15 ≤ d) :
    cX17_create D d p h (pR D h 57 (OP D p s a base src h σ ρ (fun h' _ v y => CreR D h' v y) (crS src σ)) (XE p s src h σ (crS src σ))) := by
  obtain ⟨e, rfl, he⟩ := dsucc hd
  refine JW.inv fun hI => t_X17_create ⟨k.1.2.1, k.sg, ?_⟩
  rw [k.1.2.2.1]
  have sh : s ≤ jsz h := POk.s0 k hI
  refine useV (w_next k hk (by omega)) ?_ ?_
  · rintro h1 hI1 _ ⟨σ1, e1, n1, l1, q1⟩
    have kd1 : Pd D p s a base src h h1 σ σ1 ρ ρ := n1.pok.mono (by omega) (by omega)
    refine ⟨n1.1.sg, ?_⟩
    rw [n1.1.1.2.2.1]
    refine useV (w_needWord n1.1 "table" (by decide +kernel) (by omega)) ?_ ?_
    · rintro h2 hI2 _ ⟨σ2, e2, n2, l2, q2⟩
      have kd2 : Pd D p s a base src h h2 σ σ2 ρ ρ := kd1.tr n2 (by omega) (by omega)
      refine ⟨n2.1.sg, ?_⟩
      rw [n2.1.1.2.2.1]
      refine useR (w_name n2.1 (by omega)) ?_ ?_
      · rintro v3 h3 hI3 _ ⟨nm, σ3, e3, s3, n3, l3, q3⟩
        have kd3 : Pd D p s a base src h h3 σ σ3 ρ ρ := kd2.tr n3 (by omega) (by omega)
        refine ⟨n3.1.sg, ?_⟩
        rw [n3.1.1.2.2.1]
        refine useV (w_need n3.1 "(" (by decide +kernel) (by omega)) ?_ ?_
        · rintro h4 hI4 _ ⟨σ4, e4, n4, l4, q4⟩ r5 h5 rfl rfl
          have s4 : StR h4 v3 nm := n4.2.1.2.2.2.2 _ _ s3
          have kd4 := POk.tr kd3 n4
          have lt4 : jsz h ≤ jsz h4 := kd4.2.1.2.2.2.1.1
          have hI5 := hI4.nA (k := 225) (N := 10) (by decide)
          have n5 := kd4.nA (kk := 225) (N := 10) hI4 hI sh rfl
          have sl := s4.lt hI4
          have eq0 : crS src σ = crL src nm 11 [] σ4 := by
            unfold crS
            rw [e1, ok_bind, e2, ok_bind, e3, ok_bind, e4, ok_bind]
          refine ⟨11, w_createL (h0 := h) (arr := jsz h4 + 1) hI sh (by omega) 11 [] σ4 ρ _ e _ (n5.mono (by omega) (by omega)) hI5 (s4.of (same_nwa sl.1) (same_nwa sl.2)) ⟨Nat.succ_ne_zero _, by simp only [jkd_wfi, jln_wfi, jfi_wfi, jfl_wfi, jfr_wfi, jai_wfi, jal_wfi, jar_wfi, jsz_wfi, jus_wfi, jkd_wfl, jln_wfl, jfi_wfl, jfl_wfl, jfr_wfl, jai_wfl, jal_wfl, jar_wfl, jsz_wfl, jus_wfl, jkd_wfr, jln_wfr, jfi_wfr, jfl_wfr, jfr_wfr, jai_wfr, jal_wfr, jar_wfr, jsz_wfr, jus_wfr, jkd_wai, jln_wai, jfi_wai, jfl_wai, jfr_wai, jai_wai, jal_wai, jar_wai, jsz_wai, jus_wai, jkd_wal, jln_wal, jfi_wal, jfl_wal, jfr_wal, jai_wal, jal_wal, jar_wal, jsz_wal, jus_wal, jkd_war, jln_war, jfi_war, jfl_war, jfr_war, jai_war, jal_war, jar_war, jsz_war, jus_war, jkd_nwo, jln_nwo, jfi_nwo, jfl_nwo, jfr_nwo, jai_nwo, jal_nwo, jar_nwo, jsz_nwo, jus_nwo, jkd_nwa, jln_nwa, jfi_nwa, jfl_nwa, jfr_nwa, jai_nwa, jal_nwa, jar_nwa, jsz_nwa, jus_nwa, jkd_cpa, jln_cpa, jfi_cpa, jfl_cpa, jfr_cpa, jai_cpa, jal_cpa, jar_cpa, jsz_cpa, jus_cpa, if_true], by simp only [jkd_wfi, jln_wfi, jfi_wfi, jfl_wfi, jfr_wfi, jai_wfi, jal_wfi, jar_wfi, jsz_wfi, jus_wfi, jkd_wfl, jln_wfl, jfi_wfl, jfl_wfl, jfr_wfl, jai_wfl, jal_wfl, jar_wfl, jsz_wfl, jus_wfl, jkd_wfr, jln_wfr, jfi_wfr, jfl_wfr, jfr_wfr, jai_wfr, jal_wfr, jar_wfr, jsz_wfr, jus_wfr, jkd_wai, jln_wai, jfi_wai, jfl_wai, jfr_wai, jai_wai, jal_wai, jar_wai, jsz_wai, jus_wai, jkd_wal, jln_wal, jfi_wal, jfl_wal, jfr_wal, jai_wal, jal_wal, jar_wal, jsz_wal, jus_wal, jkd_war, jln_war, jfi_war, jfl_war, jfr_war, jai_war, jal_war, jar_war, jsz_war, jus_war, jkd_nwo, jln_nwo, jfi_nwo, jfl_nwo, jfr_nwo, jai_nwo, jal_nwo, jar_nwo, jsz_nwo, jus_nwo, jkd_nwa, jln_nwa, jfi_nwa, jfl_nwa, jfr_nwa, jai_nwa, jal_nwa, jar_nwa, jsz_nwa, jus_nwa, jkd_cpa, jln_cpa, jfi_cpa, jfl_cpa, jfr_cpa, jai_cpa, jal_cpa, jar_cpa, jsz_cpa, jus_cpa, if_true], by decide, fun i c hc => by cases hc⟩ (by decide) (by omega) ?_ ?_⟩
          · rintro v6 h6 hI6 ⟨y, σ6, ρ6, e6, c6, lt6, k6, l6⟩
            exact endR fun _ _ _ => ⟨y, σ6, ρ6, by rw [eq0]; exact e6, c6, lt6, k6, by omega⟩
          · rintro y6 h6 hI6 ⟨er, e6, x6⟩
            exact endX fun _ _ => ⟨er, by rw [eq0]; exact e6, x6⟩
        · rintro y4 h4 hI4 _ ⟨er, e4, n4⟩
          exact endX fun _ _ => ⟨er, by unfold crS; rw [e1, ok_bind, e2, ok_bind, e3, ok_bind, e4]; rfl, kd3.err n4⟩
      · rintro y3 h3 hI3 _ ⟨er, e3, n3⟩
        exact endX fun _ _ => ⟨er, by unfold crS; rw [e1, ok_bind, e2, ok_bind, e3]; rfl, kd2.err n3⟩
    · rintro y2 h2 hI2 _ ⟨er, e2, n2⟩
      exact endX fun _ _ => ⟨er, by unfold crS; rw [e1, ok_bind, e2]; rfl, kd1.err n2⟩
  · rintro y1 h1 hI1 _ ⟨er, e1, n1⟩
    exact endX fun _ _ => ⟨er, by unfold crS; rw [e1]; rfl, n1.up⟩
/-- WHERE, HAVING and their like: a tree or null -/
def OtR (ρ : Nat → Nat) (v : Nat) : Option Nat → Prop
  | none => v = 0
  | some x => v = ρ x
end
