/-! the parser of the component: DELETE -/
section
variable {D : JD} {p s a base : Nat} {src : Str} {h h' h'' h0 : JH} {σ σ' σ'' σ0 : PS} {ρ ρ' ρ'' ρ0 : Nat → Nat} {n m n' m' : Int} {d c r w arr : Nat}
def DelR (h : JH) (ρ : Nat → Nat) (v : Nat) (y : Stm) : Prop := v ≠ 0 ∧ jkd h v = 32 ∧ RwR h v (smT y) ∧ OtR ρ (jfr h 131 v) (smW y)
def dlS (src : Str) (σ : PS) : Except Nat (Stm × PS) := pNext true src σ >>= fun q => pNeed true src "from" q.2 >>= fun t => pName true src t.2 >>= fun nm => pWhere true src "where" nm.2 >>= fun o => .ok ((4, nm.1, [], [], [], o.1, selNone, psP o.2, psA o.2), o.2)
theorem w_delete {Q : JO → JH → Prop} (hI : JInv D h) (k : PsR D p s a base src h σ ρ) (ho : psO σ = 0) (hk : tkK (psT σ) ≠ 0) (hd : 351 ≤ d)
    (hQ : ∀ v h', JInv D h' → OP D p s a base src h σ ρ (fun h' ρ' v y => DelR h' ρ' v y) (dlS src σ) v h' → W_X17_statement_430 D d Q p v h')
    (hE : ∀ y h', JInv D h' → XE p s src h σ (dlS src σ) y h' → Q (.inr y) h') : W_X17_statement_246 D d Q p 4 h := by
  refine ⟨fun z => absurd z (by decide), fun z => absurd z (by decide), fun z => absurd z (by decide), fun z => absurd z (by decide), fun _ => ⟨k.1.2.1, k.sg, ?_⟩, fun z => absurd z (by decide), fun z => absurd z (by decide), fun z => absurd z (by decide), fun z => absurd z (by decide), fun _ _ _ _ z => absurd rfl z⟩
  rw [k.1.2.2.1]
  have sh : s ≤ jsz h := POk.s0 k hI
  refine useV (w_next k hk (by omega)) ?_ ?_
  · rintro h1 hI1 _ ⟨σ1, e1, n1, l1, q1⟩
    have kd1 : Pd D p s a base src h h1 σ σ1 ρ ρ := n1.pok.mono (by omega) (by omega)
    refine ⟨n1.1.sg, ?_⟩
    rw [n1.1.1.2.2.1]
    refine useV (w_needWord n1.1 "from" (by decide +kernel) (by omega)) ?_ ?_
    · rintro h2 hI2 _ ⟨σ2, e2, n2, l2, q2⟩ r3 h3 rfl rfl
      have kd2 := POk.tr kd1 n2
      have lt2 : jsz h ≤ jsz h2 := kd2.2.1.2.2.2.1.1
      have hI3 := hI2.nO (k := 32) (N := 3) (by decide)
      have n3 := kd2.nO (kk := 32) (N := 3) hI2 hI sh rfl
      have p3 : POk D p s a base src h (nwo h2 32 3) σ σ2 ρ ρ (40 * (lp σ2 - lp σ) - 1) (1200 * (lp σ2 - lp σ) - 5) := n3.mono (by omega) (by omega)
      have kd3 : Pd D p s a base src h (nwo h2 32 3) σ σ2 ρ ρ := n3.mono (by omega) (by omega)
      have sk : jkd (nwo h2 32 3) (jsz h2 + 1) = 32 := by simp only [jkd_wfi, jln_wfi, jfi_wfi, jfl_wfi, jfr_wfi, jai_wfi, jal_wfi, jar_wfi, jsz_wfi, jus_wfi, jkd_wfl, jln_wfl, jfi_wfl, jfl_wfl, jfr_wfl, jai_wfl, jal_wfl, jar_wfl, jsz_wfl, jus_wfl, jkd_wfr, jln_wfr, jfi_wfr, jfl_wfr, jfr_wfr, jai_wfr, jal_wfr, jar_wfr, jsz_wfr, jus_wfr, jkd_wai, jln_wai, jfi_wai, jfl_wai, jfr_wai, jai_wai, jal_wai, jar_wai, jsz_wai, jus_wai, jkd_wal, jln_wal, jfi_wal, jfl_wal, jfr_wal, jai_wal, jal_wal, jar_wal, jsz_wal, jus_wal, jkd_war, jln_war, jfi_war, jfl_war, jfr_war, jai_war, jal_war, jar_war, jsz_war, jus_war, jkd_nwo, jln_nwo, jfi_nwo, jfl_nwo, jfr_nwo, jai_nwo, jal_nwo, jar_nwo, jsz_nwo, jus_nwo, jkd_nwa, jln_nwa, jfi_nwa, jfl_nwa, jfr_nwa, jai_nwa, jal_nwa, jar_nwa, jsz_nwa, jus_nwa, jkd_cpa, jln_cpa, jfi_cpa, jfl_cpa, jfr_cpa, jai_cpa, jal_cpa, jar_cpa, jsz_cpa, jus_cpa, if_true]
      have r0 : jsz h2 + 1 ≠ 0 := Nat.succ_ne_zero _
      refine ⟨kd3.1.sg, ?_⟩
      rw [kd3.1.1.2.2.1]
      refine useR (w_name kd3.1 (by omega)) ?_ ?_
      · rintro v4 h4 hI4 _ ⟨nm, σ4, e4, s4, n4, l4, q4⟩
        have kd4 : Pd D p s a base src h h4 σ σ4 ρ ρ := kd3.tr n4 (by omega) (by omega)
        have p4 : POk D p s a base src h h4 σ σ4 ρ ρ (40 * (lp σ4 - lp σ) - 1) (1200 * (lp σ4 - lp σ) - 5) := (POk.tr p3 n4).mono (by omega) (by omega)
        have sk4 : jkd h4 (jsz h2 + 1) = 32 := by rw [(POk.obj n4 kd3.1 hI3 (by rw [sk]; decide)).kd]; exact sk
        have o4 : psO σ4 = 0 := by rw [← ho]; unfold psO; rw [q4, q2, q1]
        refine useR (w_where n4.1 o4 hd) ?_ ?_
        · rintro v5 h5 hI5 _ ⟨y5, σ5, ρ5, e5, t5, n5, l5⟩
          have p5 : POk D p s a base src h h5 σ σ5 ρ ρ5 (40 * (lp σ5 - lp σ) - 1) (1200 * (lp σ5 - lp σ) - 5) := (POk.tr p4 n5).mono (by omega) (by omega)
          have sk5 : jkd h5 (jsz h2 + 1) = 32 := by rw [(POk.obj n5 n4.1 hI4 (by rw [sk4]; decide)).kd]; exact sk4
          have s5 : StR h5 v4 nm := n5.2.1.2.2.2.2 _ _ s4
          obtain ⟨n6, hI6, rw6, fa6, k6, z6⟩ := row_init p5 hI5 hI sh (Or.inr sk5) (by omega) s5
          refine JW.up (n := 3) (fun d => t_X39_init ⟨r0, useV0 (k_rowInit r0) ?_⟩) (by omega)
          rintro h6 _ _ rfl h7 rfl
          have n7 : POk D p s a base src h (wfr (rwH h5 (jsz h2 + 1) v4) 131 (jsz h2 + 1) v5) σ σ5 ρ ρ5 _ _ := n6.sfr hI6 hI sh (by rw [k6, sk5]; decide) (by omega)
          have e29 : ∀ F, F ≠ 131 → jfr (wfr (rwH h5 (jsz h2 + 1) v4) 131 (jsz h2 + 1) v5) F (jsz h2 + 1) = jfr (rwH h5 (jsz h2 + 1) v4) F (jsz h2 + 1) := fun F hF => by rw [jfr_wfr, if_neg fun z => hF z.1]
          have st7 : ∀ q w, StR (rwH h5 (jsz h2 + 1) v4) q w → StR (wfr (rwH h5 (jsz h2 + 1) v4) 131 (jsz h2 + 1) v5) q w := fun q w z => by
            have z1 := z.2.1
            have z2 := z.2.2.2.2.1
            exact z.of (same_wfr fun e => by rw [e] at z1; omega) (same_wfr fun e => by rw [e] at z2; omega)
          refine endV fun hI7 _ => hQ _ _ hI7 ⟨_, σ5, ρ5, by unfold dlS; rw [e1, ok_bind, e2, ok_bind, e4, ok_bind, e5]; rfl, ⟨r0, by show jkd (rwH h5 (jsz h2 + 1) v4) (jsz h2 + 1) = 32; rw [k6]; exact sk5, ⟨?_, ?_⟩, ?_⟩, by omega, n7.mono (by omega) (by omega), by omega⟩
          · rw [e29 129 (by decide)]; exact st7 _ _ rw6.1
          · rw [e29 130 (by decide)]
            have y2 := rw6.2.2.1
            exact rw6.2.of (same_wfr fun e => by rw [e] at y2; omega) st7
          · rw [show jfr (wfr (rwH h5 (jsz h2 + 1) v4) 131 (jsz h2 + 1) v5) 131 (jsz h2 + 1) = v5 by simp only [jkd_wfi, jln_wfi, jfi_wfi, jfl_wfi, jfr_wfi, jai_wfi, jal_wfi, jar_wfi, jsz_wfi, jus_wfi, jkd_wfl, jln_wfl, jfi_wfl, jfl_wfl, jfr_wfl, jai_wfl, jal_wfl, jar_wfl, jsz_wfl, jus_wfl, jkd_wfr, jln_wfr, jfi_wfr, jfl_wfr, jfr_wfr, jai_wfr, jal_wfr, jar_wfr, jsz_wfr, jus_wfr, jkd_wai, jln_wai, jfi_wai, jfl_wai, jfr_wai, jai_wai, jal_wai, jar_wai, jsz_wai, jus_wai, jkd_wal, jln_wal, jfi_wal, jfl_wal, jfr_wal, jai_wal, jal_wal, jar_wal, jsz_wal, jus_wal, jkd_war, jln_war, jfi_war, jfl_war, jfr_war, jai_war, jal_war, jar_war, jsz_war, jus_war, jkd_nwo, jln_nwo, jfi_nwo, jfl_nwo, jfr_nwo, jai_nwo, jal_nwo, jar_nwo, jsz_nwo, jus_nwo, jkd_nwa, jln_nwa, jfi_nwa, jfl_nwa, jfr_nwa, jai_nwa, jal_nwa, jar_nwa, jsz_nwa, jus_nwa, jkd_cpa, jln_cpa, jfi_cpa, jfl_cpa, jfr_cpa, jai_cpa, jal_cpa, jar_cpa, jsz_cpa, jus_cpa, and_self, if_true]]
            exact t5
        · rintro y5 h5 hI5 _ ⟨er, e5, n5⟩
          exact hE y5 h5 hI5 ⟨er, by unfold dlS; rw [e1, ok_bind, e2, ok_bind, e4, ok_bind, e5]; rfl, kd4.err n5⟩
      · rintro y4 h4 hI4 _ ⟨er, e4, n4⟩
        exact hE y4 h4 hI4 ⟨er, by unfold dlS; rw [e1, ok_bind, e2, ok_bind, e4]; rfl, kd3.err n4⟩
    · rintro y2 h2 hI2 _ ⟨er, e2, n2⟩
      exact hE y2 h2 hI2 ⟨er, by unfold dlS; rw [e1, ok_bind, e2]; rfl, kd1.err n2⟩
  · rintro y1 h1 hI1 _ ⟨er, e1, n1⟩
    exact hE y1 h1 hI1 ⟨er, by unfold dlS; rw [e1]; rfl, n1.up⟩
end
