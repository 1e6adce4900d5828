/-! the parser of the component: INSERT -/
section
variable {D : JD} {p s a base : Nat} {src : Str} {h h' h'' h0 : JH} {σ σ' σ'' σ0 : PS} {ρ ρ' ρ'' ρ0 : Nat → Nat} {n m n' m' : Int} {d c r w arr N : Nat} {t nm : Str} {ns : List Str} {rs : List (List Nat)}
/-- the rows of an INSERT -/
def RwsR (N : Nat) (h : JH) (ρ : Nat → Nat) (A W : Nat) (rs : List (List Nat)) : Prop :=
  (∀ i row, rs[i]? = some row → (N < jar h A i ∧ AR h (jar h A i) 221 10 ∧ ExsR h ρ (jar h A i) row) ∧ jai h W i = nI row.length ∧ row.length ≤ 10) ∧ (∀ i j, i < rs.length → j < rs.length → jar h A i = jar h A j → i = j) ∧ ∀ i, rs.length ≤ i → jai h W i = 0
/-- INSERT while it is read; its parts are new since N -/
def InS (N : Nat) (h : JH) (ρ : Nat → Nat) (v : Nat) (t : Str) (ns : List Str) (rs : List (List Nat)) : Prop :=
  (N < v ∧ v ≠ 0 ∧ jkd h v = 19) ∧ StR h (jfr h 100 v) t ∧ (N < jfr h 101 v ∧ AR h (jfr h 101 v) 145 10 ∧ StsR h (jfr h 101 v) ns) ∧ (jfi h 102 v = nI ns.length ∧ ns.length ≤ 10) ∧ (N < jfr h 103 v ∧ AR h (jfr h 103 v) 146 20) ∧ (N < jfr h 104 v ∧ AR h (jfr h 104 v) 147 20) ∧ (jfi h 105 v = nI rs.length ∧ rs.length ≤ 20) ∧ AR h (jfr h 106 v) 148 10 ∧ RwsR N h ρ (jfr h 103 v) (jfr h 104 v) rs
theorem RwsR.of {A W : Nat} (k : RwsR N h ρ A W rs) (sA : same h h' A) (sW : same h h' W) (sm : ∀ q, jkd h q = 221 → same h h' q) (hr : ∀ row ∈ rs, ∀ x ∈ row, ρ' x = ρ x) : RwsR N h' ρ' A W rs := by
  refine ⟨fun i row hi => ?_, fun i j hi hj e => k.2.1 i j hi hj (by rw [sA.ar, sA.ar] at e; exact e), fun i hi => by rw [sW.ai]; exact k.2.2 i hi⟩
  obtain ⟨⟨k1, k2, k3⟩, k4, k5⟩ := k.1 i row hi
  rw [sA.ar, sW.ai]
  exact ⟨⟨k1, k2.of (sm _ k2.2.1), k3.of (sm _ k2.2.1) (hr row (List.mem_of_getElem? hi))⟩, k4, k5⟩
theorem InS.of (k : InS N h ρ r t ns rs) (sm : ∀ q, skd (jkd h q) = true → same h h' q) (st : ∀ q w, StR h q w → StR h' q w) (hr : ∀ row ∈ rs, ∀ x ∈ row, ρ' x = ρ x) : InS N h' ρ' r t ns rs := by
  obtain ⟨⟨k1, k2, k3⟩, k4, ⟨k5, k6, k7⟩, k8, ⟨k9, k10⟩, ⟨k11, k12⟩, k13, k14, k15⟩ := k
  have s0 := sm r (by rw [k3]; decide)
  have s1 := sm _ (show skd (jkd h (jfr h 101 r)) = true by rw [k6.2.1]; decide)
  have s2 := sm _ (show skd (jkd h (jfr h 103 r)) = true by rw [k10.2.1]; decide)
  have s3 := sm _ (show skd (jkd h (jfr h 104 r)) = true by rw [k12.2.1]; decide)
  have s4 := sm _ (show skd (jkd h (jfr h 106 r)) = true by rw [k14.2.1]; decide)
  refine ⟨⟨k1, k2, by rw [s0.kd]; exact k3⟩, by rw [s0.fr]; exact st _ _ k4, ?_, by rw [s0.fi]; exact k8, ?_, ?_, by rw [s0.fi]; exact k13, ?_, ?_⟩
  · rw [s0.fr]; exact ⟨k5, k6.of s1, k7.of s1 st⟩
  · rw [s0.fr]; exact ⟨k9, k10.of s2⟩
  · rw [s0.fr]; exact ⟨k11, k12.of s3⟩
  · rw [s0.fr]; exact k14.of s4
  · rw [s0.fr, s0.fr]; exact k15.of s2 s3 (fun q hq => sm q (by rw [hq]; decide)) hr
theorem POk.inS (k : POk D p s a base src h h' σ σ' ρ ρ' n m) (k0 : PsR D p s a base src h σ ρ) (hI : JInv D h) (u : InS N h ρ r t ns rs) (hx : ∀ row ∈ rs, ∀ x ∈ row, x < (psA σ).length) : InS N h' ρ' r t ns rs :=
  u.of (fun q hq => k.obj k0 hI hq) k.2.1.2.2.2.2 fun row hm x hx' => k.2.2.1 x (hx row hm x hx')
/-- Insert.<init> -/
theorem w_insInit (k : POk D p s a base src h0 h σ0 σ ρ0 ρ n m) (hI0 : JInv D h0) (hs : s ≤ jsz h0) (hk : jkd h r = 19) (hr : jsz h0 < r) (st : StR h w t) (hz : jfi h 102 r = 0 ∧ jfi h 105 r = 0) (hd : 2 ≤ d) :
    cX23_init D d r w h (pV D h (fun h' => POk D p s a base src h0 h' σ0 σ ρ0 ρ (n + 4) (m + 60) ∧ InS (jsz h0) h' ρ r t [] []) no) := by
  refine JW.inv fun hI => ?_
  have r0 : r ≠ 0 := by omega
  have lt0 : jsz h0 ≤ jsz h := k.2.1.2.2.2.1.1
  have rl : r ≤ jsz h := hI.lt (by omega)
  refine JW.up (n := 2) (fun _ => t_X23_init ⟨r0, t_X20_init ⟨r0, endV fun _ _ => ?_⟩⟩) hd
  have sk : ∀ h', jkd h' r = 19 → skd (jkd h' r) = true := fun h' e => by rw [e]; decide
  rintro r2 h2 rfl rfl h3 q3
  obtain ⟨n3, e3⟩ := ar_init (F := 101) (kk := 145) (N := 10) k hI hI0 hs (sk _ hk) hr (by decide) (by decide) (by decide)
  rw [show arF h 101 r 145 10 = h3 from q3.symm] at n3 e3
  have k3 : jkd h3 r = 19 := by rw [e3.2.2.1]; exact hk
  rintro r4 h4 rfl rfl h5 q5
  obtain ⟨n5, e5⟩ := ar_init (F := 103) (kk := 146) (N := 20) n3 e3.1 hI0 hs (sk _ k3) hr (by decide) (by decide) (by decide)
  rw [show arF h3 103 r 146 20 = h5 from q5.symm] at n5 e5
  have k5 : jkd h5 r = 19 := by rw [e5.2.2.1]; exact k3
  rintro r6 h6 rfl rfl h7 q7
  obtain ⟨n7, e7⟩ := ar_init (F := 104) (kk := 147) (N := 20) n5 e5.1 hI0 hs (sk _ k5) hr (by decide) (by decide) (by decide)
  rw [show arF h5 104 r 147 20 = h7 from q7.symm] at n7 e7
  have k7 : jkd h7 r = 19 := by rw [e7.2.2.1]; exact k5
  rintro r8 h8 rfl rfl h9 q9
  obtain ⟨n9, e9⟩ := ar_init (F := 106) (kk := 148) (N := 10) n7 e7.1 hI0 hs (sk _ k7) hr (by decide) (by decide) (by decide)
  rw [show arF h7 106 r 148 10 = h9 from q9.symm] at n9 e9
  have k9 : jkd h9 r = 19 := by rw [e9.2.2.1]; exact k7
  have st9 : StR h9 w t := e9.st e7.1 (sk _ k7) (e7.st e5.1 (sk _ k5) (e5.st e3.1 (sk _ k3) (e3.st hI (sk _ hk) st)))
  rintro h10 rfl
  have n10 : POk D p s a base src h0 (wfr h9 100 r w) σ0 σ ρ0 ρ _ _ := n9.sfr e9.1 hI0 hs (sk _ k9) hr
  have a3 : AR h3 (jfr h3 101 r) 145 10 := by rw [e3.2.2.2.2.1]; exact e3.2.2.2.2.2.2.2
  have a9 := e9.ar e7.1 (by rw [k7]; decide) (by decide) (by decide) (e7.ar e5.1 (by rw [k5]; decide) (by decide) (by decide) (e5.ar e3.1 (by rw [k3]; decide) (by decide) (by decide) a3))
  have b5 : AR h5 (jfr h5 103 r) 146 20 := by rw [e5.2.2.2.2.1]; exact e5.2.2.2.2.2.2.2
  have b9 := e9.ar e7.1 (by rw [k7]; decide) (by decide) (by decide) (e7.ar e5.1 (by rw [k5]; decide) (by decide) (by decide) b5)
  have c7 : AR h7 (jfr h7 104 r) 147 20 := by rw [e7.2.2.2.2.1]; exact e7.2.2.2.2.2.2.2
  have c9 := e9.ar e7.1 (by rw [k7]; decide) (by decide) (by decide) c7
  have d9 : AR h9 (jfr h9 106 r) 148 10 := by rw [e9.2.2.2.2.1]; exact e9.2.2.2.2.2.2.2
  have x1 : jfr h9 101 r = jsz h + 1 := by rw [e9.2.2.2.2.2.1 _ (by decide), e7.2.2.2.2.2.1 _ (by decide), e5.2.2.2.2.2.1 _ (by decide), e3.2.2.2.2.1]
  have x2 : jfr h9 103 r = jsz h3 + 1 := by rw [e9.2.2.2.2.2.1 _ (by decide), e7.2.2.2.2.2.1 _ (by decide), e5.2.2.2.2.1]
  have x3 : jfr h9 104 r = jsz h5 + 1 := by rw [e9.2.2.2.2.2.1 _ (by decide), e7.2.2.2.2.1]
  have z3 := e3.2.2.2.1
  have z5 := e5.2.2.2.1
  have f : ∀ F, F ≠ 100 → jfr (wfr h9 100 r w) F r = jfr h9 F r := fun F hF => by rw [jfr_wfr, if_neg fun z => hF z.1]
  have i9 : ∀ F, jfi h9 F r = jfi h F r := fun F => by rw [e9.2.2.2.2.2.2.1, e7.2.2.2.2.2.2.1, e5.2.2.2.2.2.2.1, e3.2.2.2.2.2.2.1]
  have y1 := st9.2.1
  have y2 := st9.2.2.2.2.1
  refine endV fun _ _ => ⟨n10.mono (by omega) (by omega), ⟨hr, r0, k9⟩, ?_, ?_, ⟨(i9 102).trans hz.1, by decide⟩, ?_, ?_, ⟨(i9 105).trans hz.2, by decide⟩, ?_, ⟨fun i w hw => (by cases hw), fun i j hi => absurd hi (Nat.not_lt_zero _), fun i _ => ?_⟩⟩
  · rw [show jfr (wfr h9 100 r w) 100 r = w by simp only [jkd_wfi, jln_wfi, jfi_wfi, jfl_wfi, jfr_wfi, jai_wfi, jal_wfi, jar_wfi, jsz_wfi, jus_wfi, jkd_wfl, jln_wfl, jfi_wfl, jfl_wfl, jfr_wfl, jai_wfl, jal_wfl, jar_wfl, jsz_wfl, jus_wfl, jkd_wfr, jln_wfr, jfi_wfr, jfl_wfr, jfr_wfr, jai_wfr, jal_wfr, jar_wfr, jsz_wfr, jus_wfr, jkd_wai, jln_wai, jfi_wai, jfl_wai, jfr_wai, jai_wai, jal_wai, jar_wai, jsz_wai, jus_wai, jkd_wal, jln_wal, jfi_wal, jfl_wal, jfr_wal, jai_wal, jal_wal, jar_wal, jsz_wal, jus_wal, jkd_war, jln_war, jfi_war, jfl_war, jfr_war, jai_war, jal_war, jar_war, jsz_war, jus_war, jkd_nwo, jln_nwo, jfi_nwo, jfl_nwo, jfr_nwo, jai_nwo, jal_nwo, jar_nwo, jsz_nwo, jus_nwo, jkd_nwa, jln_nwa, jfi_nwa, jfl_nwa, jfr_nwa, jai_nwa, jal_nwa, jar_nwa, jsz_nwa, jus_nwa, jkd_cpa, jln_cpa, jfi_cpa, jfl_cpa, jfr_cpa, jai_cpa, jal_cpa, jar_cpa, jsz_cpa, jus_cpa, and_self, if_true]]
    exact st9.of (same_wfr fun e => by rw [e] at y1; omega) (same_wfr fun e => by rw [e] at y2; omega)
  · rw [f _ (by decide)]; exact ⟨by omega, a9, fun i w hw => by cases hw⟩
  · rw [f _ (by decide)]; exact ⟨by omega, b9⟩
  · rw [f _ (by decide)]; exact ⟨by omega, c9⟩
  · rw [f _ (by decide)]; exact d9
  · rw [f _ (by decide), x3]
    show jai h9 (jsz h5 + 1) i = 0
    have z7 := e7.2.2.2.1
    rw [(e9.2.1 (jsz h5 + 1) (by omega) (by omega)).ai, q7]
    show jai h5 (jsz h5 + 1) i = 0
    exact e5.1.zai (Nat.lt_succ_self _) i
end
