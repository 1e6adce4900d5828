/-! the parser of the component: brackets, DELETE -/
section
variable {D : JD} {p s a base : Nat} {src : Str} {h h' h'' h0 : JH} {σ σ' σ'' σ0 : PS} {ρ ρ' ρ'' ρ0 : Nat → Nat} {n m n' m' : Int} {d c r arr : Nat}
/-- BEGIN, COMMIT, ROLLBACK: the word -/
def BrkR (h : JH) (v : Nat) (w : Str) : Prop := v ≠ 0 ∧ jkd h v = 35 ∧ StR h (jfr h 165 v) w
def brS (src : Str) (kk : Nat) (σ : PS) : Except Nat (Stm × PS) := pNext true src σ >>= fun q => .ok ((kk, [], [], [], [], none, selNone, psP q.2, psA q.2), q.2)
theorem w_brk {Q : JO → JH → Prop} {kk : Nat} (hI : JInv D h) (k : PsR D p s a base src h σ ρ) (hk : tkK (psT σ) ≠ 0) (hd : 14 ≤ d)
    (hQ : ∀ v h', JInv D h' → OP D p s a base src h σ ρ (fun h' _ v _ => BrkR h' v (tkW (psT σ))) (brS src kk σ) v h' → W_X17_statement_430 D d Q p v h')
    (hE : ∀ y h', JInv D h' → XE p s src h σ (brS src kk σ) y h' → Q (.inr y) h') :
    ∀ (r_67:Nat) (h_68:JH), r_67 = jsz h + 1 → h_68 = nwo h 35 1 → (p ≠ 0 ∧ ((jfr h_68 79 p) ≠ 0 ∧ (cX42_init D d r_67 (jfr h_68 88 (jfr h_68 79 p)) h_68 (pV D h_68 (fun h_73 => (jfr h_73 79 p) ≠ 0 ∧ (cX18_next D d (jfr h_73 79 p) h_73 (pV D h_73 (fun h_77 => W_X17_statement_430 D d Q p r_67 h_77) (jth Q)))) (jth Q))))) := by
  rintro r1 h1 rfl rfl
  have sh : s ≤ jsz h := POk.s0 k hI
  have hI1 := hI.nO (k := 35) (N := 1) (by decide)
  have n1 := (POk.rf k).nO (kk := 35) (N := 1) hI hI sh rfl
  have sk : jkd (nwo h 35 1) (jsz h + 1) = 35 := by simp only [jkd_wfi, jln_wfi, jfi_wfi, jfl_wfi, jfr_wfi, jai_wfi, jal_wfi, jar_wfi, jsz_wfi, jus_wfi, jkd_wfl, jln_wfl, jfi_wfl, jfl_wfl, jfr_wfl, jai_wfl, jal_wfl, jar_wfl, jsz_wfl, jus_wfl, jkd_wfr, jln_wfr, jfi_wfr, jfl_wfr, jfr_wfr, jai_wfr, jal_wfr, jar_wfr, jsz_wfr, jus_wfr, jkd_wai, jln_wai, jfi_wai, jfl_wai, jfr_wai, jai_wai, jal_wai, jar_wai, jsz_wai, jus_wai, jkd_wal, jln_wal, jfi_wal, jfl_wal, jfr_wal, jai_wal, jal_wal, jar_wal, jsz_wal, jus_wal, jkd_war, jln_war, jfi_war, jfl_war, jfr_war, jai_war, jal_war, jar_war, jsz_war, jus_war, jkd_nwo, jln_nwo, jfi_nwo, jfl_nwo, jfr_nwo, jai_nwo, jal_nwo, jar_nwo, jsz_nwo, jus_nwo, jkd_nwa, jln_nwa, jfi_nwa, jfl_nwa, jfr_nwa, jai_nwa, jal_nwa, jar_nwa, jsz_nwa, jus_nwa, jkd_cpa, jln_cpa, jfi_cpa, jfl_cpa, jfr_cpa, jai_cpa, jal_cpa, jar_cpa, jsz_cpa, jus_cpa, if_true]
  have r0 : jsz h + 1 ≠ 0 := Nat.succ_ne_zero _
  have bs1 : jbs D < jsz h + 1 := hI1.2.1 _ (by rw [sk]; decide)
  refine ⟨k.1.2.1, n1.1.sg, ?_⟩
  rw [n1.1.1.2.2.1]
  have st : StR (nwo h 35 1) (jfr (nwo h 35 1) 88 s) (tkW (psT σ)) := n1.1.2.1.2.2.2.1
  generalize jfr (nwo h 35 1) 88 s = w at st
  have z1 := st.2.1
  have z2 := st.2.2.2.2.1
  refine JW.up (n := 2) (fun d => t_X42_init ⟨r0, t_X20_init ⟨r0, endV fun _ _ => ?_⟩⟩) (by omega)
  rintro h2 rfl
  have n2 : POk D p s a base src h (wfr (nwo h 35 1) 165 (jsz h + 1) w) σ σ ρ ρ _ _ := n1.sfr hI1 hI sh (by rw [sk]; decide) (by omega)
  have st2 : StR (wfr (nwo h 35 1) 165 (jsz h + 1) w) w (tkW (psT σ)) := st.of (same_wfr fun e => by rw [e, sk] at z1; omega) (same_wfr fun e => by rw [e, sk] at z2; omega)
  refine endV fun hI2 _ => ⟨n2.1.sg, ?_⟩
  rw [n2.1.1.2.2.1]
  refine useV (w_next n2.1 hk (by omega)) ?_ ?_
  · rintro h3 hI3 _ ⟨σ3, e3, n3, l3, q3⟩
    have sm := POk.obj n3 n2.1 hI2 (q := jsz h + 1) (by show skd (jkd (nwo h 35 1) (jsz h + 1)) = true; rw [sk]; decide)
    refine hQ _ _ hI3 ⟨_, σ3, ρ, by unfold brS; rw [e3]; rfl, ⟨r0, by rw [sm.kd]; exact sk, ?_⟩, Nat.lt_succ_self _, (POk.tr n2 n3).mono (by omega) (by omega), l3⟩
    rw [sm.fr, show jfr (wfr (nwo h 35 1) 165 (jsz h + 1) w) 165 (jsz h + 1) = w by simp only [jkd_wfi, jln_wfi, jfi_wfi, jfl_wfi, jfr_wfi, jai_wfi, jal_wfi, jar_wfi, jsz_wfi, jus_wfi, jkd_wfl, jln_wfl, jfi_wfl, jfl_wfl, jfr_wfl, jai_wfl, jal_wfl, jar_wfl, jsz_wfl, jus_wfl, jkd_wfr, jln_wfr, jfi_wfr, jfl_wfr, jfr_wfr, jai_wfr, jal_wfr, jar_wfr, jsz_wfr, jus_wfr, jkd_wai, jln_wai, jfi_wai, jfl_wai, jfr_wai, jai_wai, jal_wai, jar_wai, jsz_wai, jus_wai, jkd_wal, jln_wal, jfi_wal, jfl_wal, jfr_wal, jai_wal, jal_wal, jar_wal, jsz_wal, jus_wal, jkd_war, jln_war, jfi_war, jfl_war, jfr_war, jai_war, jal_war, jar_war, jsz_war, jus_war, jkd_nwo, jln_nwo, jfi_nwo, jfl_nwo, jfr_nwo, jai_nwo, jal_nwo, jar_nwo, jsz_nwo, jus_nwo, jkd_nwa, jln_nwa, jfi_nwa, jfl_nwa, jfr_nwa, jai_nwa, jal_nwa, jar_nwa, jsz_nwa, jus_nwa, jkd_cpa, jln_cpa, jfi_cpa, jfl_cpa, jfr_cpa, jai_cpa, jal_cpa, jar_cpa, jsz_cpa, jus_cpa, and_self, if_true]]
    exact n3.2.1.2.2.2.2 _ _ st2
  · rintro y3 h3 hI3 _ ⟨er, e3, n3⟩
    exact hE y3 h3 hI3 ⟨er, by unfold brS; rw [e3]; rfl, n2.errC (by omega) (by omega) rfl n3⟩
end
