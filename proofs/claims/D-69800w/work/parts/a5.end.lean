/-! the parser of the component: the end of a statement; DROP, brackets -/
section
variable {D : JD} {p s a base : Nat} {src : Str} {h h' h'' h0 : JH} {σ σ' σ'' σ0 : PS} {ρ ρ' ρ'' ρ0 : Nat → Nat} {n m n' m' : Int} {d c r arr : Nat}
theorem kcon_end (hI : JInv D h) {k : Nat} (hk : k < 7) : kcon D k = jcs D 350 ↔ k = 0 := by
  have c7 : ∀ {j i : Nat}, (j < 373 ∧ jenm j = true) → (i < 373 ∧ jenm i = true) → j ≠ i → jcs D j ≠ jcs D i := fun hj hi ne e => ne (kc_ne hI hj hi e)
  unfold kcon
  constructor
  · intro z
    apply Decidable.byContradiction
    intro k0
    rw [if_neg k0] at z
    refine c7 (i := 350) ?_ ⟨by decide, by decide⟩ ?_ z
    all_goals
      (repeat' split) <;> decide
  · intro z
    rw [if_pos z]
theorem w_ended (k : PsR D p s a base src h σ ρ) (hd : 1 ≤ d) : cX17_ended D d p h (pI D h (fun v h' => v = (if tkK (psT σ) = 0 then 1 else 0) ∧ h' = h) no) := by
  obtain ⟨e, rfl, he⟩ := dsucc hd
  refine JW.inv fun hI => t_X17_ended ⟨k.1.2.1, k.sg, ?_⟩
  rw [k.1.2.2.1, k.2.1.2.2.1]
  refine ⟨fun z => ?_, fun z => ?_⟩
  · rw [kcon_end hI k.k7] at z
    exact ⟨Or.inl rfl, endI fun _ _ => ⟨by rw [if_neg z], rfl⟩⟩
  · rw [kcon_end hI k.k7] at z
    exact ⟨Or.inr rfl, endI fun _ _ => ⟨by rw [if_pos z], rfl⟩⟩
/-- the end of a statement -/
theorem w_430 {v : Nat} {Q : JO → JH → Prop} (k : Pd D p s a base src h0 h σ0 σ ρ0 ρ) (hd : 8 ≤ d) (hQ : (tkK (psT σ) == 0 || pIs σ ";") = true → Q (.inl (some (vR 57 v))) h)
    (hE : (tkK (psT σ) == 0 || pIs σ ";") = false → ∀ y h', JInv D h' → PErr p s src h0 h' σ0 y (tkF (psT σ) + 1) → Q (.inr y) h') : W_X17_statement_430 D d Q p v h := by
  refine ⟨k.1.1.2.1, useI0 (w_ended k.1 (by omega)) ?_⟩
  rintro v1 h1 _ _ ⟨rfl, rfl⟩
  by_cases e0 : tkK (psT σ) = 0
  · rw [if_pos e0]
    exact ⟨fun _ => hQ (by rw [e0]; rfl), fun z => absurd z (by decide)⟩
  rw [if_neg e0]
  have b0 : (tkK (psT σ) == 0) = false := by simpa using e0
  rw [b0, Bool.false_or] at hQ hE
  refine ⟨fun z => absurd rfl z, fun _ => ⟨k.1.sg, ?_⟩⟩
  rw [k.1.1.2.2.1]
  refine useI0 (w_is k.1 ";" (by decide +kernel) (by omega)) ?_
  rintro v2 h2 _ _ ⟨rfl, rfl⟩
  by_cases i2 : pIs σ ";" = true
  · rw [if_pos i2]
    exact ⟨fun _ => hQ i2, fun z => absurd z (by decide)⟩
  rw [if_neg i2]
  refine ⟨fun z => absurd rfl z, fun _ => useR0 (w_broken k.1 (by omega)) ?_⟩
  rintro y3 h3 hI3 _ n3
  exact ⟨n3.1.1, hE (Bool.eq_false_iff.mpr i2) y3 h3 hI3 (k.err n3)⟩
/-- DROP -/
def DrpR (h : JH) (v : Nat) (y : Stm) : Prop := v ≠ 0 ∧ jkd h v = 18 ∧ StR h (jfr h 99 v) (smT y)
def drS (src : Str) (σ : PS) : Except Nat (Stm × PS) := pNext true src σ >>= fun q => pNeed true src "table" q.2 >>= fun t => pName true src t.2 >>= fun nm => .ok ((1, nm.1, [], [], [], none, selNone, psP nm.2, psA nm.2), nm.2)
theorem w_drop {Q : JO → JH → Prop} (hI : JInv D h) (k : PsR D p s a base src h σ ρ) (hk : tkK (psT σ) ≠ 0) (hd : 14 ≤ d)
    (hQ : ∀ v h', JInv D h' → OP D p s a base src h σ ρ (fun h' _ v y => DrpR h' v y) (drS src σ) v h' → W_X17_statement_430 D d Q p v h')
    (hE : ∀ y h', JInv D h' → XE p s src h σ (drS src σ) y h' → Q (.inr y) h') : W_X17_statement_246 D d Q p 1 h := by
  refine ⟨fun z => absurd z (by decide), fun _ => ⟨k.1.2.1, k.sg, ?_⟩, fun z => absurd z (by decide), fun z => absurd z (by decide), fun z => absurd z (by decide), fun z => absurd z (by decide), fun z => absurd z (by decide), fun z => absurd z (by decide), fun z => absurd z (by decide), fun _ z => absurd rfl z⟩
  rw [k.1.2.2.1]
  have sh : s ≤ jsz h := POk.s0 k hI
  refine useV (w_next k hk (by omega)) ?_ ?_
  · rintro h1 hI1 _ ⟨σ1, e1, n1, l1, q1⟩
    have kd1 : Pd D p s a base src h h1 σ σ1 ρ ρ := n1.pok.mono (by omega) (by omega)
    refine ⟨n1.1.sg, ?_⟩
    rw [n1.1.1.2.2.1]
    refine useV (w_needWord n1.1 "table" (by decide +kernel) (by omega)) ?_ ?_
    · rintro h2 hI2 _ ⟨σ2, e2, n2, l2, q2⟩ r3 h3 rfl rfl
      have kd2 := POk.tr kd1 n2
      have lt2 : jsz h ≤ jsz h2 := kd2.2.1.2.2.2.1.1
      have hI3 := hI2.nO (k := 18) (N := 1) (by decide)
      have n3 := kd2.nO (kk := 18) (N := 1) hI2 hI sh rfl
      have kd3 : Pd D p s a base src h (nwo h2 18 1) σ σ2 ρ ρ := n3.mono (by omega) (by omega)
      have sk : jkd (nwo h2 18 1) (jsz h2 + 1) = 18 := by simp only [jkd_wfi, jln_wfi, jfi_wfi, jfl_wfi, jfr_wfi, jai_wfi, jal_wfi, jar_wfi, jsz_wfi, jus_wfi, jkd_wfl, jln_wfl, jfi_wfl, jfl_wfl, jfr_wfl, jai_wfl, jal_wfl, jar_wfl, jsz_wfl, jus_wfl, jkd_wfr, jln_wfr, jfi_wfr, jfl_wfr, jfr_wfr, jai_wfr, jal_wfr, jar_wfr, jsz_wfr, jus_wfr, jkd_wai, jln_wai, jfi_wai, jfl_wai, jfr_wai, jai_wai, jal_wai, jar_wai, jsz_wai, jus_wai, jkd_wal, jln_wal, jfi_wal, jfl_wal, jfr_wal, jai_wal, jal_wal, jar_wal, jsz_wal, jus_wal, jkd_war, jln_war, jfi_war, jfl_war, jfr_war, jai_war, jal_war, jar_war, jsz_war, jus_war, jkd_nwo, jln_nwo, jfi_nwo, jfl_nwo, jfr_nwo, jai_nwo, jal_nwo, jar_nwo, jsz_nwo, jus_nwo, jkd_nwa, jln_nwa, jfi_nwa, jfl_nwa, jfr_nwa, jai_nwa, jal_nwa, jar_nwa, jsz_nwa, jus_nwa, jkd_cpa, jln_cpa, jfi_cpa, jfl_cpa, jfr_cpa, jai_cpa, jal_cpa, jar_cpa, jsz_cpa, jus_cpa, if_true]
      have r0 : jsz h2 + 1 ≠ 0 := Nat.succ_ne_zero _
      refine ⟨kd3.1.sg, ?_⟩
      rw [kd3.1.1.2.2.1]
      refine useR (w_name kd3.1 (by omega)) ?_ ?_
      · rintro v4 h4 hI4 _ ⟨nm, σ4, e4, s4, n4, l4, q4⟩
        have kd4 : Pd D p s a base src h h4 σ σ4 ρ ρ := kd3.tr n4 (by omega) (by omega)
        have sk4 : jkd h4 (jsz h2 + 1) = 18 := by rw [(POk.obj n4 kd3.1 hI3 (by rw [sk]; decide)).kd]; exact sk
        have bs4 : jbs D < jsz h2 + 1 := hI4.2.1 _ (by rw [sk4]; decide)
        have lt4 : jsz h2 + 1 ≤ jsz h4 := hI4.lt (by rw [sk4]; decide)
        refine JW.up (n := 2) (fun d => t_X22_init ⟨r0, t_X20_init ⟨r0, endV fun _ _ => ?_⟩⟩) (by omega)
        rintro h5 rfl
        have kd5 : Pd D p s a base src h (wfr h4 99 (jsz h2 + 1) v4) σ σ4 ρ ρ := POk.sfr kd4 hI4 hI sh (by rw [sk4]; decide) (by omega)
        have z1 := s4.2.1
        have z2 := s4.2.2.2.2.1
        refine endV fun hI5 _ => hQ _ _ hI5 ⟨_, σ4, ρ, by unfold drS; rw [e1, ok_bind, e2, ok_bind, e4]; rfl, ⟨r0, sk4, ?_⟩, by omega, kd5, by omega⟩
        rw [show jfr (wfr h4 99 (jsz h2 + 1) v4) 99 (jsz h2 + 1) = v4 by simp only [jkd_wfi, jln_wfi, jfi_wfi, jfl_wfi, jfr_wfi, jai_wfi, jal_wfi, jar_wfi, jsz_wfi, jus_wfi, jkd_wfl, jln_wfl, jfi_wfl, jfl_wfl, jfr_wfl, jai_wfl, jal_wfl, jar_wfl, jsz_wfl, jus_wfl, jkd_wfr, jln_wfr, jfi_wfr, jfl_wfr, jfr_wfr, jai_wfr, jal_wfr, jar_wfr, jsz_wfr, jus_wfr, jkd_wai, jln_wai, jfi_wai, jfl_wai, jfr_wai, jai_wai, jal_wai, jar_wai, jsz_wai, jus_wai, jkd_wal, jln_wal, jfi_wal, jfl_wal, jfr_wal, jai_wal, jal_wal, jar_wal, jsz_wal, jus_wal, jkd_war, jln_war, jfi_war, jfl_war, jfr_war, jai_war, jal_war, jar_war, jsz_war, jus_war, jkd_nwo, jln_nwo, jfi_nwo, jfl_nwo, jfr_nwo, jai_nwo, jal_nwo, jar_nwo, jsz_nwo, jus_nwo, jkd_nwa, jln_nwa, jfi_nwa, jfl_nwa, jfr_nwa, jai_nwa, jal_nwa, jar_nwa, jsz_nwa, jus_nwa, jkd_cpa, jln_cpa, jfi_cpa, jfl_cpa, jfr_cpa, jai_cpa, jal_cpa, jar_cpa, jsz_cpa, jus_cpa, and_self, if_true]]
        exact s4.of (same_wfr fun e => by rw [e] at z1; omega) (same_wfr fun e => by rw [e] at z2; omega)
      · rintro y4 h4 hI4 _ ⟨er, e4, n4⟩
        exact hE y4 h4 hI4 ⟨er, by unfold drS; rw [e1, ok_bind, e2, ok_bind, e4]; rfl, kd3.err n4⟩
    · rintro y2 h2 hI2 _ ⟨er, e2, n2⟩
      exact hE y2 h2 hI2 ⟨er, by unfold drS; rw [e1, ok_bind, e2]; rfl, kd1.err n2⟩
  · rintro y1 h1 hI1 _ ⟨er, e1, n1⟩
    exact hE y1 h1 hI1 ⟨er, by unfold drS; rw [e1]; rfl, n1.up⟩
end
