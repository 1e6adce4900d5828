/-! the parser of the component: its state where other things change; names, operators -/
theorem SgT.of {D : JD} {h h' : JH} {s a base : Nat} {src : Str} {t : Tok} (k : SgT D h s a base src t) (hs : same h h' s) (ha : same h h' a) (hl : same h h' (jfr h 90 s)) (ht : jfr h 67 (jfr h 90 s) ≠ 0 → same h h' (jfr h 67 (jfr h 90 s))) (hst : ∀ r w, StR h r w → StR h' r w) : SgT D h' s a base src t := by
  obtain ⟨⟨b1, b2, b3, b4, b5, b6, b7, b8, b9, b10, b11, b12⟩, k2, k3, k4, k5, k6, k7, k8⟩ := k
  refine ⟨⟨by rw [hs.kd]; exact b1, b2, by rw [hs.fr]; exact b3, b4, by rw [ha.kd]; exact b5, by rw [hs.fi]; exact b6, by rw [hs.fi]; exact b7, by rw [ha.ln]; exact b8, by rw [ha.ln]; exact b9, fun i b hb => by rw [ha.ai]; exact b10 i b hb, by rw [hs.fi]; exact b11, b12⟩, by rw [hs.fi]; exact k2, by rw [hs.fr]; exact k3, by rw [hs.fr]; exact hst _ _ k4, fun e => by rw [hs.fl]; exact k5 e, by rw [hs.fr]; exact k6.of hl ht, fun e => by rw [hs.fr]; exact (k7 e).of hl ht, k8⟩
section
variable {D : JD} {p s a base : Nat} {src : Str} {h h' h'' : JH} {σ σ' σ'' : PS} {ρ ρ' ρ'' : Nat → Nat} {n m n' m' : Int} {d : Nat}
theorem PsR.of (k : PsR D p s a base src h σ ρ) (hp : same h h' p) (hs : same h h' s) (ha : same h h' a) (hl : same h h' (jfr h 90 s)) (ht : jfr h 67 (jfr h 90 s) ≠ 0 → same h h' (jfr h 67 (jfr h 90 s))) (hst : ∀ r w, StR h r w → StR h' r w) (ow : OW h') (tr : TreeR D h' (psA σ) ρ) : PsR D p s a base src h' σ ρ := by
  obtain ⟨⟨k1, k2, k3, k4, k5, k6⟩, k7, k8, k9, k10, k11⟩ := k
  exact ⟨⟨by rw [hp.kd]; exact k1, k2, by rw [hp.fr]; exact k3, by rw [hp.fi]; exact k4, by rw [hp.fi]; exact k5, by rw [hp.fi]; exact k6⟩, k7.of hs ha hl ht hst, k8, ow, tr, k11⟩
theorem PsR.kinds (hI : JInv D h) (k : PsR D p s a base src h σ ρ) : jkd h p = 14 ∧ jkd h s = 15 ∧ jkd h a = 123 ∧ jkd h (jfr h 90 s) = 100 ∧ (jfr h 67 (jfr h 90 s) ≠ 0 → jkd h (jfr h 67 (jfr h 90 s)) = 144) ∧ p ≤ jsz h ∧ s ≤ jsz h ∧ a ≤ jsz h ∧ jfr h 90 s ≤ jsz h ∧ jfr h 67 (jfr h 90 s) ≤ jsz h := by
  have k15 := k.s15
  have k90 : jkd h (jfr h 90 s) = 100 := hI.ref (F := 90) (by decide +kernel) k.2.1.2.2.2.2.2.1.1
  exact ⟨k.1.1, k15.1, k.2.1.1.2.2.2.2.1, k90, fun h0 => hI.ref (F := 67) (by decide +kernel) h0, hI.lt (by rw [k.1.1]; decide), hI.lt (by rw [k15.1]; decide), hI.lt (by rw [k.2.1.1.2.2.2.2.1]; decide), hI.refl, hI.refl⟩
/-- only a node that is not yet made, or an array of parts, and new objects have changed -/
theorem PsR.fresh {r : Nat} (k : PsR D p s a base src h σ ρ) (hI : JInv D h) (hf : fr (jsz h) (fun q => q = r) h h') (hr : (20 ≤ jkd h r ∧ jkd h r ≤ 29 ∧ jfr h 108 r = 0) ∨ jsz h < r) (ow : OW h') : PsR D p s a base src h' σ ρ := by
  obtain ⟨q1, q2, q3, q4, q5, q6, q7, q8, q9, q10⟩ := k.kinds hI
  have ne : ∀ q, q ≤ jsz h → jkd h q < 20 ∨ 29 < jkd h q → same h h' q := fun q ql z => hf q ql fun e => by
    rcases hr with w | w
    · rw [e] at z; omega
    · omega
  have st : ∀ q w, StR h q w → StR h' q w := fun q w z => by
    have hl := z.lt hI
    have z1 := z.2.1
    have z2 := z.2.2.2.2.1
    exact z.of (ne q hl.1 (by omega)) (ne _ hl.2 (by omega))
  refine k.of (ne p q6 (by omega)) (ne s q7 (by omega)) (ne a q8 (by omega)) (ne _ q9 (by omega)) (fun h0 => ne _ q10 (by rw [q5 h0]; omega)) st ow ?_
  rcases hr with w | w
  · exact k.2.2.2.2.1.fresh hI hf w.2.2 ⟨w.1, w.2.1⟩
  · intro i hi
    have ki := k.2.2.2.2.1 i hi
    have nl : ∀ q, q ≤ jsz h → same h h' q := fun q ql => hf q ql (by omega)
    exact ki.of ⟨nl _ (ki.lt hI), fun F _ _ => ⟨nl _ hI.refl, fun _ => nl _ hI.refl⟩, fun _ _ => nl _ hI.refl, st⟩
theorem OW.new {h h' : JH} (o : OW h) (e : ∀ F q, jfr h' F q = jfr h F q) : OW h' := o.eq fun F q _ => e F q
theorem PsR.nO (k : PsR D p s a base src h σ ρ) (hI : JInv D h) (kk N : Nat) : PsR D p s a base src (nwo h kk N) σ ρ := k.fresh hI (fr_none (r := jsz h + 1) (fr_nwo (Nat.le_refl _))) (Or.inr (Nat.lt_succ_self _)) (k.2.2.2.1.new fun _ _ => rfl)
theorem PsR.nA (k : PsR D p s a base src h σ ρ) (hI : JInv D h) (kk N : Nat) : PsR D p s a base src (nwa h kk N) σ ρ := k.fresh hI (fr_none (r := jsz h + 1) (fr_nwa (Nat.le_refl _))) (Or.inr (Nat.lt_succ_self _)) (k.2.2.2.1.new fun _ _ => rfl)
theorem PsR.hs (k : PsR D p s a base src h σ ρ) (hI : JInv D h) (hh : HS h h') : PsR D p s a base src h' σ ρ := by
  obtain ⟨q1, q2, q3, q4, q5, q6, q7, q8, q9, q10⟩ := k.kinds hI
  obtain ⟨f1, f2, f3, f4, f5⟩ := hh.sgf (p := p) hI q2
  exact k.of (f2 p (by omega)) (f2 s (by omega)) (f2 a (by omega)) (f2 _ (by omega)) (fun h0 => f2 _ (by rw [q5 h0]; omega)) f1.2.2.2.2 (k.2.2.2.1.new f5) (k.2.2.2.2.1.pf hI k.2.2.2.1 q1 q2 f1)
theorem HS.sp (hh : HS h h') : Sp h h' 0 0 := by
  rcases hh with rfl | ⟨r, w, hr, hk, rfl | ⟨rfl, _⟩⟩
  · exact Sp.rf _
  · exact Sp.fi
  · exact Sp.fi
theorem w_isName (k : PsR D p s a base src h σ ρ) (hd : 6 ≤ d) : cX18_isName D d s h (pI D h (fun v h' => v = (if tkK (psT σ) = 2 then 1 else 0) ∧ POk D p s a base src h h' σ σ ρ ρ 0 0 ∧ (∀ F, jfr h' F s = jfr h F s)) no) := by
  obtain ⟨e, rfl, he⟩ := dsucc hd
  refine JW.inv fun hI => t_X18_isName ⟨k.s15.2, fun z => ?_, fun z => ?_⟩
  · refine ⟨jbo0, endI fun _ _ => ⟨?_, POk.rf k, fun _ => rfl⟩⟩
    rw [k.2.1.2.2.1, kcon_word hI k.k7] at z
    rw [if_neg fun y => z (Or.inr y)]
  · rw [k.2.1.2.2.1, kcon_word hI k.k7] at z
    obtain ⟨q, hq⟩ := k.2.2.2.2.2.1.1
    obtain ⟨t1, t2, t3⟩ := tok_w src q
    rw [← hq] at t1 t2 t3
    refine JW.up (n := 5) (fun d => useI0 (k_reserved (d := d) k.2.1.2.2.2.1) ?_) he
    rintro v h1 hI1 _ ⟨rfl, hh⟩
    have ok : POk D p s a base src h h1 σ σ ρ ρ 0 0 := ⟨k.hs hI hh, (hh.sgf (p := p) hI k.s15.1).1, RX.rf _ _, hh.sp, Le.rf _, Int.le_refl _⟩
    have fr5 := (hh.sgf (p := p) hI k.s15.1).2.2.2.2
    refine ⟨fun y => ⟨jbo0, endI fun _ _ => ⟨?_, ok, fun F => fr5 F s⟩⟩, fun y => ⟨jbo1, endI fun _ _ => ⟨?_, ok, fun F => fr5 F s⟩⟩⟩
    · rw [if_neg fun w => ?_]
      rw [t2 w] at y
      exact y rfl
    · rw [if_pos]
      rcases z with z | z
      · rw [t1 z] at y; cases y
      · exact z
theorem w_name (k : PsR D p s a base src h σ ρ) (hd : 11 ≤ d) :
    cX18_name D d s h (pR D h 64 (fun v h' => ∃ w σ', pName true src σ = .ok (w, σ') ∧ StR h' v w ∧ PSg D p s a base src h h' σ σ' ρ ∧ lp σ + 1 ≤ lp σ' ∧ σ'.2 = σ.2) (fun x h' => ∃ e, pName true src σ = .error e ∧ PErG 0 p s src h h' σ x e)) := by
  obtain ⟨e, rfl, he⟩ := dsucc hd
  refine JW.inv fun hI => t_X18_name ⟨k.s15.2, useI0 (w_isName k (by omega)) ?_⟩
  rintro v h1 hI1 _ ⟨rfl, ok1, fr1⟩
  have k1 := ok1.1
  refine ⟨fun y => ?_, fun y => ?_⟩
  · have h2 : tkK (psT σ) = 2 := by
      by_cases z : tkK (psT σ) = 2
      · exact z
      · rw [if_neg z] at y; exact absurd rfl y
    refine useV (w_next k1 (by omega) he) ?_ ?_
    · rintro h3 hI3 _ ⟨σ', n1, n2, n3, n4⟩
      refine endR fun _ _ _ => ⟨tkW (psT σ), σ', ?_, ?_, (ok1.tr n2).mono (by omega) (by omega), n3, n4⟩
      · unfold pName
        rw [h2, if_pos (show ((2 : Nat) == 2) = true from rfl), n1]; rfl
      · exact n2.2.1.2.2.2.2 _ _ k1.2.1.2.2.2.1
    · rintro x h3 hI3 _ ⟨er, n1, n2⟩
      refine endX fun _ _ => ⟨er, ?_, ok1.err0 (by omega) (by omega) rfl n2⟩
      unfold pName
      rw [h2, if_pos (show ((2 : Nat) == 2) = true from rfl), n1]; rfl
  · have h2 : ¬ tkK (psT σ) = 2 := fun z => by rw [if_pos z] at y; cases y
    refine useR0 (w_brokenS k1 (by omega)) ?_
    rintro x h3 hI3 _ n2
    refine ⟨n2.1.1, endX fun _ _ => ⟨tkF (psT σ) + 1, ?_, ok1.err0 (by omega) (by omega) rfl n2⟩⟩
    unfold pName
    rw [if_neg (by simpa using h2)]; rfl
/-- a field of the parser alone changes -/
theorem PFr.fi {F : Nat} (v : Int32) (hI : JInv D h) (hp : jkd h p = 14) : PFr h (wfi h F p v) p s := by
  refine ⟨fr_wfi (Or.inl (Or.inl rfl)), rfl, Or.inl rfl, ⟨Nat.le_refl _, fun _ => Or.inl rfl⟩, fun q w z => ?_⟩
  have z1 := z.2.1
  have z2 := z.2.2.2.2.1
  exact z.of (same_wfi fun e => by rw [e] at z1; omega) (same_wfi fun e => by rw [e] at z2; omega)
theorem PsR.set (k : PsR D p s a base src h σ ρ) (hI : JInv D h) {F : Nat} {v : Int32} (hF : F = 80 ∨ F = 81 ∨ F = 82) (e1 : psT σ' = psT σ) (e2 : psA σ' = psA σ) (h80 : jfi (wfi h F p v) 80 p = nI (psO σ')) (h81 : jfi (wfi h F p v) 81 p = nI (psN σ')) (h82 : jfi (wfi h F p v) 82 p = nI (psP σ')) (g : Gd src σ') (hN : psN σ' ≤ 300) (hP : psP σ' ≤ 8) : PsR D p s a base src (wfi h F p v) σ' ρ := by
  obtain ⟨q1, q2, q3, q4, q5, q6, q7, q8, q9, q10⟩ := k.kinds hI
  have ne : ∀ q, jkd h q ≠ 14 → same h (wfi h F p v) q := fun q z => same_wfi fun e => z (e ▸ q1)
  have pf := PFr.fi (s := s) (F := F) v hI q1
  obtain ⟨⟨k1, k2, k3, k4, k5, k6⟩, k7, k8, k9, k10, k11⟩ := k
  refine ⟨⟨k1, k2, k3, h80, h81, h82⟩, ?_, by rw [e1]; exact k8, k9.new fun _ _ => rfl, by rw [e2]; exact k10.pf hI k9 q1 q2 pf, g, hN, hP, k11.2.2.2.1, by rw [e2]; exact k11.2.2.2.2⟩
  rw [e1]
  exact k7.of (ne s (by omega)) (ne a (by omega)) (ne _ (by omega)) (fun h0 => ne _ (by rw [q5 h0]; omega)) pf.2.2.2.2
theorem lp_eq (e : psT σ' = psT σ) : lp σ' = lp σ := by unfold lp; rw [e]
/-- one deeper -/
theorem w_enter (k : PsR D p s a base src h σ ρ) (hd : 9 ≤ d) :
    cX17_enter D d p h (pV D h (fun h' => pEnter σ = .ok ((), psT σ, psO σ + 1, σ.2.2) ∧ psO σ ≠ 30 ∧ PsR D p s a base src h' (psT σ, psO σ + 1, σ.2.2) ρ ∧ PFr h h' p s ∧ Sp h h' 0 0) (fun x h' => ∃ e, pEnter σ = .error e ∧ PErG 0 p s src h h' σ x e)) := by
  obtain ⟨e, rfl, he⟩ := dsucc hd
  have g := k.2.2.2.2.2.1
  refine JW.inv fun hI => t_X17_enter ⟨k.1.2.1, fun z => ?_, fun z => ?_⟩
  · have ho : psO σ ≠ 30 := fun e => z (by rw [k.1.2.2.2.1, e]; rfl)
    rintro h1 rfl
    refine endV fun _ _ => ⟨?_, ho, ?_, PFr.fi _ hI k.1.1, Sp.fi⟩
    · unfold pEnter
      rw [if_neg (by simpa using ho)]
    · rw [k.1.2.2.2.1, nI_1]
      refine k.set hI (σ' := (psT σ, psO σ + 1, σ.2.2)) (Or.inl rfl) rfl rfl ?_ ?_ ?_ (g.enter ho) k.2.2.2.2.2.2.1 k.2.2.2.2.2.2.2.1
      · simp only [jkd_wfi, jln_wfi, jfi_wfi, jfl_wfi, jfr_wfi, jai_wfi, jal_wfi, jar_wfi, jsz_wfi, jus_wfi, jkd_wfl, jln_wfl, jfi_wfl, jfl_wfl, jfr_wfl, jai_wfl, jal_wfl, jar_wfl, jsz_wfl, jus_wfl, jkd_wfr, jln_wfr, jfi_wfr, jfl_wfr, jfr_wfr, jai_wfr, jal_wfr, jar_wfr, jsz_wfr, jus_wfr, jkd_wai, jln_wai, jfi_wai, jfl_wai, jfr_wai, jai_wai, jal_wai, jar_wai, jsz_wai, jus_wai, jkd_wal, jln_wal, jfi_wal, jfl_wal, jfr_wal, jai_wal, jal_wal, jar_wal, jsz_wal, jus_wal, jkd_war, jln_war, jfi_war, jfl_war, jfr_war, jai_war, jal_war, jar_war, jsz_war, jus_war, jkd_nwo, jln_nwo, jfi_nwo, jfl_nwo, jfr_nwo, jai_nwo, jal_nwo, jar_nwo, jsz_nwo, jus_nwo, jkd_nwa, jln_nwa, jfi_nwa, jfl_nwa, jfr_nwa, jai_nwa, jal_nwa, jar_nwa, jsz_nwa, jus_nwa, jkd_cpa, jln_cpa, jfi_cpa, jfl_cpa, jfr_cpa, jai_cpa, jal_cpa, jar_cpa, jsz_cpa, jus_cpa, and_self, if_true]; rfl
      · simp only [jkd_wfi, jln_wfi, jfi_wfi, jfl_wfi, jfr_wfi, jai_wfi, jal_wfi, jar_wfi, jsz_wfi, jus_wfi, jkd_wfl, jln_wfl, jfi_wfl, jfl_wfl, jfr_wfl, jai_wfl, jal_wfl, jar_wfl, jsz_wfl, jus_wfl, jkd_wfr, jln_wfr, jfi_wfr, jfl_wfr, jfr_wfr, jai_wfr, jal_wfr, jar_wfr, jsz_wfr, jus_wfr, jkd_wai, jln_wai, jfi_wai, jfl_wai, jfr_wai, jai_wai, jal_wai, jar_wai, jsz_wai, jus_wai, jkd_wal, jln_wal, jfi_wal, jfl_wal, jfr_wal, jai_wal, jal_wal, jar_wal, jsz_wal, jus_wal, jkd_war, jln_war, jfi_war, jfl_war, jfr_war, jai_war, jal_war, jar_war, jsz_war, jus_war, jkd_nwo, jln_nwo, jfi_nwo, jfl_nwo, jfr_nwo, jai_nwo, jal_nwo, jar_nwo, jsz_nwo, jus_nwo, jkd_nwa, jln_nwa, jfi_nwa, jfl_nwa, jfr_nwa, jai_nwa, jal_nwa, jar_nwa, jsz_nwa, jus_nwa, jkd_cpa, jln_cpa, jfi_cpa, jfl_cpa, jfr_cpa, jai_cpa, jal_cpa, jar_cpa, jsz_cpa, jus_cpa, Nat.reduceEqDiff, false_and, if_false]; exact k.1.2.2.2.2.1
      · simp only [jkd_wfi, jln_wfi, jfi_wfi, jfl_wfi, jfr_wfi, jai_wfi, jal_wfi, jar_wfi, jsz_wfi, jus_wfi, jkd_wfl, jln_wfl, jfi_wfl, jfl_wfl, jfr_wfl, jai_wfl, jal_wfl, jar_wfl, jsz_wfl, jus_wfl, jkd_wfr, jln_wfr, jfi_wfr, jfl_wfr, jfr_wfr, jai_wfr, jal_wfr, jar_wfr, jsz_wfr, jus_wfr, jkd_wai, jln_wai, jfi_wai, jfl_wai, jfr_wai, jai_wai, jal_wai, jar_wai, jsz_wai, jus_wai, jkd_wal, jln_wal, jfi_wal, jfl_wal, jfr_wal, jai_wal, jal_wal, jar_wal, jsz_wal, jus_wal, jkd_war, jln_war, jfi_war, jfl_war, jfr_war, jai_war, jal_war, jar_war, jsz_war, jus_war, jkd_nwo, jln_nwo, jfi_nwo, jfl_nwo, jfr_nwo, jai_nwo, jal_nwo, jar_nwo, jsz_nwo, jus_nwo, jkd_nwa, jln_nwa, jfi_nwa, jfl_nwa, jfr_nwa, jai_nwa, jal_nwa, jar_nwa, jsz_nwa, jus_nwa, jkd_cpa, jln_cpa, jfi_cpa, jfl_cpa, jfr_cpa, jai_cpa, jal_cpa, jar_cpa, jsz_cpa, jus_cpa, Nat.reduceEqDiff, false_and, if_false]; exact k.1.2.2.2.2.2
  · have ho : psO σ = 30 := by
      rw [k.1.2.2.2.1] at z
      have g30 := g.2.2
      exact (nI_eq (by omega) (by omega)).mp z
    refine useR0 (w_broken k (by omega)) ?_
    rintro x h3 hI3 _ n2
    refine ⟨n2.1.1, fun _ _ => ⟨tkF (psT σ) + 1, ?_, n2⟩⟩
    unfold pEnter
    rw [if_pos (by simpa using ho)]; rfl
/-- an operator is passed over -/
theorem w_operator (k : PsR D p s a base src h σ ρ) (hk : tkK (psT σ) ≠ 0) (hd : 11 ≤ d) :
    cX17_operator D d p h (pV D h (fun h' => ∃ σ', pOper true src σ = .ok ((), σ') ∧ PSg D p s a base src h h' σ σ' ρ ∧ lp σ + 1 ≤ lp σ' ∧ psN σ' = psN σ + 1 ∧ psA σ' = psA σ) (fun x h' => ∃ e, pOper true src σ = .error e ∧ PErG 0 p s src h h' σ x e)) := by
  obtain ⟨e, rfl, he⟩ := dsucc hd
  have g := k.2.2.2.2.2.1
  have hN := k.2.2.2.2.2.2.1
  refine JW.inv fun hI => t_X17_operator ⟨k.1.2.1, fun z => ?_, fun z => ?_⟩
  · have ho : psN σ ≠ 300 := fun e => z (by rw [k.1.2.2.2.2.1, e]; rfl)
    rintro h1 rfl
    have k1 : PsR D p s a base src (wfi h 81 p (jfi h 81 p + 1)) (psT σ, psO σ, psN σ + 1, σ.2.2.2) ρ := by
      rw [k.1.2.2.2.2.1, nI_1]
      refine k.set hI (σ' := (psT σ, psO σ, psN σ + 1, σ.2.2.2)) (Or.inr (Or.inl rfl)) rfl rfl ?_ ?_ ?_ g (by show psN σ + 1 ≤ 300; omega) k.2.2.2.2.2.2.2.1
      · simp only [jkd_wfi, jln_wfi, jfi_wfi, jfl_wfi, jfr_wfi, jai_wfi, jal_wfi, jar_wfi, jsz_wfi, jus_wfi, jkd_wfl, jln_wfl, jfi_wfl, jfl_wfl, jfr_wfl, jai_wfl, jal_wfl, jar_wfl, jsz_wfl, jus_wfl, jkd_wfr, jln_wfr, jfi_wfr, jfl_wfr, jfr_wfr, jai_wfr, jal_wfr, jar_wfr, jsz_wfr, jus_wfr, jkd_wai, jln_wai, jfi_wai, jfl_wai, jfr_wai, jai_wai, jal_wai, jar_wai, jsz_wai, jus_wai, jkd_wal, jln_wal, jfi_wal, jfl_wal, jfr_wal, jai_wal, jal_wal, jar_wal, jsz_wal, jus_wal, jkd_war, jln_war, jfi_war, jfl_war, jfr_war, jai_war, jal_war, jar_war, jsz_war, jus_war, jkd_nwo, jln_nwo, jfi_nwo, jfl_nwo, jfr_nwo, jai_nwo, jal_nwo, jar_nwo, jsz_nwo, jus_nwo, jkd_nwa, jln_nwa, jfi_nwa, jfl_nwa, jfr_nwa, jai_nwa, jal_nwa, jar_nwa, jsz_nwa, jus_nwa, jkd_cpa, jln_cpa, jfi_cpa, jfl_cpa, jfr_cpa, jai_cpa, jal_cpa, jar_cpa, jsz_cpa, jus_cpa, Nat.reduceEqDiff, false_and, if_false]; exact k.1.2.2.2.1
      · simp only [jkd_wfi, jln_wfi, jfi_wfi, jfl_wfi, jfr_wfi, jai_wfi, jal_wfi, jar_wfi, jsz_wfi, jus_wfi, jkd_wfl, jln_wfl, jfi_wfl, jfl_wfl, jfr_wfl, jai_wfl, jal_wfl, jar_wfl, jsz_wfl, jus_wfl, jkd_wfr, jln_wfr, jfi_wfr, jfl_wfr, jfr_wfr, jai_wfr, jal_wfr, jar_wfr, jsz_wfr, jus_wfr, jkd_wai, jln_wai, jfi_wai, jfl_wai, jfr_wai, jai_wai, jal_wai, jar_wai, jsz_wai, jus_wai, jkd_wal, jln_wal, jfi_wal, jfl_wal, jfr_wal, jai_wal, jal_wal, jar_wal, jsz_wal, jus_wal, jkd_war, jln_war, jfi_war, jfl_war, jfr_war, jai_war, jal_war, jar_war, jsz_war, jus_war, jkd_nwo, jln_nwo, jfi_nwo, jfl_nwo, jfr_nwo, jai_nwo, jal_nwo, jar_nwo, jsz_nwo, jus_nwo, jkd_nwa, jln_nwa, jfi_nwa, jfl_nwa, jfr_nwa, jai_nwa, jal_nwa, jar_nwa, jsz_nwa, jus_nwa, jkd_cpa, jln_cpa, jfi_cpa, jfl_cpa, jfr_cpa, jai_cpa, jal_cpa, jar_cpa, jsz_cpa, jus_cpa, and_self, if_true]; rfl
      · simp only [jkd_wfi, jln_wfi, jfi_wfi, jfl_wfi, jfr_wfi, jai_wfi, jal_wfi, jar_wfi, jsz_wfi, jus_wfi, jkd_wfl, jln_wfl, jfi_wfl, jfl_wfl, jfr_wfl, jai_wfl, jal_wfl, jar_wfl, jsz_wfl, jus_wfl, jkd_wfr, jln_wfr, jfi_wfr, jfl_wfr, jfr_wfr, jai_wfr, jal_wfr, jar_wfr, jsz_wfr, jus_wfr, jkd_wai, jln_wai, jfi_wai, jfl_wai, jfr_wai, jai_wai, jal_wai, jar_wai, jsz_wai, jus_wai, jkd_wal, jln_wal, jfi_wal, jfl_wal, jfr_wal, jai_wal, jal_wal, jar_wal, jsz_wal, jus_wal, jkd_war, jln_war, jfi_war, jfl_war, jfr_war, jai_war, jal_war, jar_war, jsz_war, jus_war, jkd_nwo, jln_nwo, jfi_nwo, jfl_nwo, jfr_nwo, jai_nwo, jal_nwo, jar_nwo, jsz_nwo, jus_nwo, jkd_nwa, jln_nwa, jfi_nwa, jfl_nwa, jfr_nwa, jai_nwa, jal_nwa, jar_nwa, jsz_nwa, jus_nwa, jkd_cpa, jln_cpa, jfi_cpa, jfl_cpa, jfr_cpa, jai_cpa, jal_cpa, jar_cpa, jsz_cpa, jus_cpa, Nat.reduceEqDiff, false_and, if_false]; exact k.1.2.2.2.2.2
    have ok1 : POk D p s a base src h (wfi h 81 p (jfi h 81 p + 1)) σ (psT σ, psO σ, psN σ + 1, σ.2.2.2) ρ ρ 0 0 := ⟨k1, PFr.fi _ hI k.1.1, RX.rf _ _, Sp.fi, ⟨rfl, Nat.le_succ _, fun _ => by show psN σ + 1 ≤ 300; omega, Nat.le_refl _, fun z => z, [], (List.append_nil _).symm⟩, Int.le_refl _⟩
    refine ⟨k1.sg, ?_⟩
    rw [k1.1.2.2.1]
    refine useV (w_next k1 hk (by omega)) ?_ ?_
    · rintro h2 hI2 _ ⟨σ', n1, n2, n3, n4⟩
      refine endV fun _ _ => ⟨σ', ?_, (ok1.tr n2).mono (by have := lp_eq (σ := σ) (σ' := (psT σ, psO σ, psN σ + 1, σ.2.2.2)) rfl; omega) (by have := lp_eq (σ := σ) (σ' := (psT σ, psO σ, psN σ + 1, σ.2.2.2)) rfl; omega), n3, ?_, ?_⟩
      · unfold pOper
        rw [if_neg (by simpa using ho), n1]
      · unfold psN; rw [n4]; rfl
      · unfold psA; rw [n4]
    · rintro x h2 hI2 _ ⟨er, n1, n2⟩
      refine fun _ _ => ⟨er, ?_, ok1.err0 (Int.le_refl _) (Int.le_refl _) rfl n2⟩
      unfold pOper
      rw [if_neg (by simpa using ho), n1]
  · have ho : psN σ = 300 := by
      rw [k.1.2.2.2.2.1] at z
      exact (nI_eq (by omega) (by omega)).mp z
    refine useR0 (w_broken k (by omega)) ?_
    rintro x h3 hI3 _ n2
    refine ⟨n2.1.1, fun _ _ => ⟨tkF (psT σ) + 1, ?_, n2⟩⟩
    unfold pOper
    rw [if_pos (by simpa using ho)]; rfl
end
