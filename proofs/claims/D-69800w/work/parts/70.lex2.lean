/-! signs of the component: numbers, words -/
/-- from h to h' only the signs s and their literal have changed; at most n objects and m slots are new -/
def SgF (h h' : JH) (s n m : Nat) : Prop :=
  fr (jsz h) (fun q => q = s ∨ q = jfr h 90 s ∨ q = jfr h 67 (jfr h 90 s)) h h' ∧ jfr h' 90 s = jfr h 90 s ∧ (jfr h' 67 (jfr h 90 s) = jfr h 67 (jfr h 90 s) ∨ jsz h < jfr h' 67 (jfr h 90 s)) ∧ (TX h → TX h') ∧ jsz h ≤ jsz h' ∧ jsz h' ≤ jsz h + n ∧ jus h' ≤ jus h + m ∧ ∀ F q, 92 ≤ F → jfr h' F q = jfr h F q
theorem SgF.rf (h : JH) (s : Nat) : SgF h h s 0 0 := ⟨fr.rf _ _ _, rfl, Or.inl rfl, fun z => z, Nat.le_refl _, Nat.le_refl _, Nat.le_refl _, fun _ _ _ => rfl⟩
theorem SgF.tr {a b c : JH} {s n m n' m' : Nat} (h1 : SgF a b s n m) (h2 : SgF b c s n' m') : SgF a c s (n + n') (m + m') := by
  obtain ⟨a1, a2, a3, a4, a5, a6, a7, a8⟩ := h1
  obtain ⟨b1, b2, b3, b4, b5, b6, b7, b8⟩ := h2
  refine ⟨a1.tr (b1.mono a5 fun q hq hz => ?_), b2.trans a2, ?_, fun z => b4 (a4 z), by omega, by omega, by omega, fun F q hF => (b8 F q hF).trans (a8 F q hF)⟩
  · rcases hz with z | z | z
    · exact Or.inl z
    · exact Or.inr (Or.inl (z.trans a2))
    · rw [a2] at z
      rcases a3 with e | e
      · exact Or.inr (Or.inr (z.trans e))
      · omega
  · rw [a2] at b3
    rcases b3 with e | e
    · rw [e]; exact a3
    · exact Or.inr (by omega)
theorem SgF.mono {a b : JH} {s n m n' m' : Nat} (h1 : SgF a b s n m) (hn : n ≤ n') (hm : m ≤ m') : SgF a b s n' m' := ⟨h1.1, h1.2.1, h1.2.2.1, h1.2.2.2.1, h1.2.2.2.2.1, by have := h1.2.2.2.2.2.1; omega, by have := h1.2.2.2.2.2.2.1; omega, h1.2.2.2.2.2.2.2⟩
theorem SgF.fi {h : JH} {s F : Nat} (v : Int32) : SgF h (wfi h F s v) s 0 0 := ⟨fr_wfi (Or.inl (Or.inl rfl)), rfl, Or.inl rfl, fun z => z, Nat.le_refl _, Nat.le_refl _, Nat.le_refl _, fun _ _ _ => rfl⟩
theorem SgF.fl {h : JH} {s F : Nat} (v : Int64) : SgF h (wfl h F s v) s 0 0 := ⟨fr_wfl (Or.inl (Or.inl rfl)), rfl, Or.inl rfl, fun z => z, Nat.le_refl _, Nat.le_refl _, Nat.le_refl _, fun _ _ _ => rfl⟩
theorem SgF.rf' {h : JH} {s F v : Nat} (hF : F ≠ 90) (hF2 : F ≠ 67) (hF3 : F < 92 := by decide) : SgF h (wfr h F s v) s 0 0 := by
  have e : ∀ q, jfr (wfr h F s v) 67 q = jfr h 67 q := fun q => by simp only [jkd_wfi, jln_wfi, jfi_wfi, jfl_wfi, jfr_wfi, jai_wfi, jal_wfi, jar_wfi, jsz_wfi, jus_wfi, jkd_wfl, jln_wfl, jfi_wfl, jfl_wfl, jfr_wfl, jai_wfl, jal_wfl, jar_wfl, jsz_wfl, jus_wfl, jkd_wfr, jln_wfr, jfi_wfr, jfl_wfr, jfr_wfr, jai_wfr, jal_wfr, jar_wfr, jsz_wfr, jus_wfr, jkd_wai, jln_wai, jfi_wai, jfl_wai, jfr_wai, jai_wai, jal_wai, jar_wai, jsz_wai, jus_wai, jkd_wal, jln_wal, jfi_wal, jfl_wal, jfr_wal, jai_wal, jal_wal, jar_wal, jsz_wal, jus_wal, jkd_war, jln_war, jfi_war, jfl_war, jfr_war, jai_war, jal_war, jar_war, jsz_war, jus_war, jkd_nwo, jln_nwo, jfi_nwo, jfl_nwo, jfr_nwo, jai_nwo, jal_nwo, jar_nwo, jsz_nwo, jus_nwo, jkd_nwa, jln_nwa, jfi_nwa, jfl_nwa, jfr_nwa, jai_nwa, jal_nwa, jar_nwa, jsz_nwa, jus_nwa, jkd_cpa, jln_cpa, jfi_cpa, jfl_cpa, jfr_cpa, jai_cpa, jal_cpa, jar_cpa, jsz_cpa, jus_cpa]; rw [if_neg fun z => hF2 z.1.symm]
  refine ⟨fr_wfr (Or.inl (Or.inl rfl)), ?_, Or.inl (e _), fun z a b => by rw [e, e]; exact z a b, Nat.le_refl _, Nat.le_refl _, Nat.le_refl _, fun G q hG => by rw [jfr_wfr, if_neg fun z => by omega]⟩
  simp only [jkd_wfi, jln_wfi, jfi_wfi, jfl_wfi, jfr_wfi, jai_wfi, jal_wfi, jar_wfi, jsz_wfi, jus_wfi, jkd_wfl, jln_wfl, jfi_wfl, jfl_wfl, jfr_wfl, jai_wfl, jal_wfl, jar_wfl, jsz_wfl, jus_wfl, jkd_wfr, jln_wfr, jfi_wfr, jfl_wfr, jfr_wfr, jai_wfr, jal_wfr, jar_wfr, jsz_wfr, jus_wfr, jkd_wai, jln_wai, jfi_wai, jfl_wai, jfr_wai, jai_wai, jal_wai, jar_wai, jsz_wai, jus_wai, jkd_wal, jln_wal, jfi_wal, jfl_wal, jfr_wal, jai_wal, jal_wal, jar_wal, jsz_wal, jus_wal, jkd_war, jln_war, jfi_war, jfl_war, jfr_war, jai_war, jal_war, jar_war, jsz_war, jus_war, jkd_nwo, jln_nwo, jfi_nwo, jfl_nwo, jfr_nwo, jai_nwo, jal_nwo, jar_nwo, jsz_nwo, jus_nwo, jkd_nwa, jln_nwa, jfi_nwa, jfl_nwa, jfr_nwa, jai_nwa, jal_nwa, jar_nwa, jsz_nwa, jus_nwa, jkd_cpa, jln_cpa, jfi_cpa, jfl_cpa, jfr_cpa, jai_cpa, jal_cpa, jar_cpa, jsz_cpa, jus_cpa]; rw [if_neg fun z => hF z.1.symm]
/-- the same, and the literal is as it was -/
def SgG (h h' : JH) (s n m : Nat) : Prop := SgF h h' s n m ∧ fr (jsz h) (fun q => q = s) h h'
theorem SgG.rf (h : JH) (s : Nat) : SgG h h s 0 0 := ⟨SgF.rf h s, fr.rf _ _ _⟩
theorem SgG.tr {a b c : JH} {s n m n' m' : Nat} (h1 : SgG a b s n m) (h2 : SgG b c s n' m') : SgG a c s (n + n') (m + m') := ⟨h1.1.tr h2.1, h1.2.tr (h2.2.mono h1.1.2.2.2.2.1 fun _ _ z => z)⟩
theorem SgG.mono {a b : JH} {s n m n' m' : Nat} (h1 : SgG a b s n m) (hn : n ≤ n') (hm : m ≤ m') : SgG a b s n' m' := ⟨h1.1.mono hn hm, h1.2⟩
theorem SgG.fi {h : JH} {s F : Nat} (v : Int32) : SgG h (wfi h F s v) s 0 0 := ⟨SgF.fi v, fr_wfi (Or.inl rfl)⟩
theorem SgG.fl {h : JH} {s F : Nat} (v : Int64) : SgG h (wfl h F s v) s 0 0 := ⟨SgF.fl v, fr_wfl (Or.inl rfl)⟩
theorem SgG.rf' {h : JH} {s F v : Nat} (hF : F ≠ 90) (hF2 : F ≠ 67) (hF3 : F < 92 := by decide) : SgG h (wfr h F s v) s 0 0 := ⟨SgF.rf' hF hF2 hF3, fr_wfr (Or.inl rfl)⟩
/-- what is only new does not touch the signs -/
theorem New.sg {h h' : JH} {s n m : Nat} (hn : New h h' n m) : SgG h h' s n m := by
  obtain ⟨n1, n2, n3, n4, n5⟩ := hn
  have e67 : ∀ q, jfr h' 67 q = jfr h 67 q := fun q => n5 67 q (by decide)
  exact ⟨⟨n1.mono (Nat.le_refl _) fun _ _ z => z.elim, n5 90 s (by decide), Or.inl (e67 _), fun z a b => by rw [e67, e67]; exact z a b, n2, n3, n4, fun F q hF => n5 F q (by omega)⟩, n1.mono (Nat.le_refl _) fun _ _ z => z.elim⟩
theorem SgB.of {h h' : JH} {s a base p : Nat} {src : Str} (hs : SgB h s a base src p) (h1 : same h h' s) (h2 : same h h' a) : SgB h' s a base src p := by
  obtain ⟨s1, s2, s3, s4, s5, s6, s7, s8, s9, s10, s11, s12⟩ := hs
  unfold SgB
  rw [h1.kd, h1.fr, h2.kd, h1.fi, h1.fi, h1.fi, h2.ln]
  exact ⟨s1, s2, s3, s4, s5, s6, s7, s8, s9, fun i b hb => by rw [h2.ai]; exact s10 i b hb, s11, s12⟩
theorem SgB.lt {D : JD} {h : JH} {s a base p : Nat} {src : Str} (hI : JInv D h) (hs : SgB h s a base src p) : s ≤ jsz h ∧ a ≤ jsz h :=
  ⟨hI.lt (by rw [hs.1]; decide), hI.lt (by rw [hs.2.2.2.2.1]; decide)⟩
/-- fields of the signs other than those that say where they are -/
theorem SgB.fl {h : JH} {s a base p F : Nat} {src : Str} {v : Int64} (hs : SgB h s a base src p) : SgB (wfl h F s v) s a base src p := hs
theorem SgB.fr {h : JH} {s a base p F v : Nat} {src : Str} (hs : SgB h s a base src p) (hF : F ≠ 83) : SgB (wfr h F s v) s a base src p := by
  obtain ⟨s1, s2, s3, s4, s5, s6, s7, s8, s9, s10, s11, s12⟩ := hs
  refine ⟨s1, s2, ?_, s4, s5, s6, s7, s8, s9, s10, s11, s12⟩
  simp only [jkd_wfi, jln_wfi, jfi_wfi, jfl_wfi, jfr_wfi, jai_wfi, jal_wfi, jar_wfi, jsz_wfi, jus_wfi, jkd_wfl, jln_wfl, jfi_wfl, jfl_wfl, jfr_wfl, jai_wfl, jal_wfl, jar_wfl, jsz_wfl, jus_wfl, jkd_wfr, jln_wfr, jfi_wfr, jfl_wfr, jfr_wfr, jai_wfr, jal_wfr, jar_wfr, jsz_wfr, jus_wfr, jkd_wai, jln_wai, jfi_wai, jfl_wai, jfr_wai, jai_wai, jal_wai, jar_wai, jsz_wai, jus_wai, jkd_wal, jln_wal, jfi_wal, jfl_wal, jfr_wal, jai_wal, jal_wal, jar_wal, jsz_wal, jus_wal, jkd_war, jln_war, jfi_war, jfl_war, jfr_war, jai_war, jal_war, jar_war, jsz_war, jus_war, jkd_nwo, jln_nwo, jfi_nwo, jfl_nwo, jfr_nwo, jai_nwo, jal_nwo, jar_nwo, jsz_nwo, jus_nwo, jkd_nwa, jln_nwa, jfi_nwa, jfl_nwa, jfr_nwa, jai_nwa, jal_nwa, jar_nwa, jsz_nwa, jus_nwa, jkd_cpa, jln_cpa, jfi_cpa, jfl_cpa, jfr_cpa, jai_cpa, jal_cpa, jar_cpa, jsz_cpa, jus_cpa]; rw [if_neg fun z => hF z.1.symm]; exact s3
theorem SgB.fi {h : JH} {s a base p F : Nat} {src : Str} {v : Int32} (hs : SgB h s a base src p) (h1 : F ≠ 84) (h2 : F ≠ 85) (h3 : F ≠ 91) : SgB (wfi h F s v) s a base src p := by
  obtain ⟨s1, s2, s3, s4, s5, s6, s7, s8, s9, s10, s11, s12⟩ := hs
  unfold SgB
  simp only [jkd_wfi, jln_wfi, jfi_wfi, jfl_wfi, jfr_wfi, jai_wfi, jal_wfi, jar_wfi, jsz_wfi, jus_wfi, jkd_wfl, jln_wfl, jfi_wfl, jfl_wfl, jfr_wfl, jai_wfl, jal_wfl, jar_wfl, jsz_wfl, jus_wfl, jkd_wfr, jln_wfr, jfi_wfr, jfl_wfr, jfr_wfr, jai_wfr, jal_wfr, jar_wfr, jsz_wfr, jus_wfr, jkd_wai, jln_wai, jfi_wai, jfl_wai, jfr_wai, jai_wai, jal_wai, jar_wai, jsz_wai, jus_wai, jkd_wal, jln_wal, jfi_wal, jfl_wal, jfr_wal, jai_wal, jal_wal, jar_wal, jsz_wal, jus_wal, jkd_war, jln_war, jfi_war, jfl_war, jfr_war, jai_war, jal_war, jar_war, jsz_war, jus_war, jkd_nwo, jln_nwo, jfi_nwo, jfl_nwo, jfr_nwo, jai_nwo, jal_nwo, jar_nwo, jsz_nwo, jus_nwo, jkd_nwa, jln_nwa, jfi_nwa, jfl_nwa, jfr_nwa, jai_nwa, jal_nwa, jar_nwa, jsz_nwa, jus_nwa, jkd_cpa, jln_cpa, jfi_cpa, jfl_cpa, jfr_cpa, jai_cpa, jal_cpa, jar_cpa, jsz_cpa, jus_cpa]
  rw [if_neg fun z => h1 z.1.symm, if_neg fun z => h3 z.1.symm, if_neg fun z => h2 z.1.symm]
  exact ⟨s1, s2, s3, s4, s5, s6, s7, s8, s9, s10, s11, s12⟩
/-- the fault of broken signs: it names the place where the sign at hand begins -/
theorem k_broken {D : JD} {d : Nat} {h : JH} {s a base p f : Nat} {src : Str} (hs : SgB h s a base src p) (hf : jfi h 87 s = nI (base + f)) (hb : f ≤ 100000) :
    cX18_broken D (d + 7) s h (pR D h 9 (fun v h' => FtR h' v (sStr "42601") (nI (f + 1)) ∧ SgG h h' s 1 8) no) := by
  refine JW.inv fun hI => t_X18_broken ?_
  have hq : StR h (jcs D 11) (sStr "42601") := by
    have := k_const hI (j := 11) (by decide)
    rwa [show jcon 11 = sStr "42601" by decide +kernel] at this
  rintro r1 h1 rfl rfl
  have hl := hq.lt hI
  have hsl := hs.lt hI
  have hs' : StR (nwo h 9 8) (jcs D 11) (sStr "42601") := hq.of (same_nwo hl.1) (same_nwo hl.2)
  refine ⟨hs.2.1, ?_⟩
  have e1 : jfi (nwo h 9 8) 87 s - jfi (nwo h 9 8) 91 s + 1 = nI (f + 1) := by
    simp only [jkd_wfi, jln_wfi, jfi_wfi, jfl_wfi, jfr_wfi, jai_wfi, jal_wfi, jar_wfi, jsz_wfi, jus_wfi, jkd_wfl, jln_wfl, jfi_wfl, jfl_wfl, jfr_wfl, jai_wfl, jal_wfl, jar_wfl, jsz_wfl, jus_wfl, jkd_wfr, jln_wfr, jfi_wfr, jfl_wfr, jfr_wfr, jai_wfr, jal_wfr, jar_wfr, jsz_wfr, jus_wfr, jkd_wai, jln_wai, jfi_wai, jfl_wai, jfr_wai, jai_wai, jal_wai, jar_wai, jsz_wai, jus_wai, jkd_wal, jln_wal, jfi_wal, jfl_wal, jfr_wal, jai_wal, jal_wal, jar_wal, jsz_wal, jus_wal, jkd_war, jln_war, jfi_war, jfl_war, jfr_war, jai_war, jal_war, jar_war, jsz_war, jus_war, jkd_nwo, jln_nwo, jfi_nwo, jfl_nwo, jfr_nwo, jai_nwo, jal_nwo, jar_nwo, jsz_nwo, jus_nwo, jkd_nwa, jln_nwa, jfi_nwa, jfl_nwa, jfr_nwa, jai_nwa, jal_nwa, jar_nwa, jsz_nwa, jus_nwa, jkd_cpa, jln_cpa, jfi_cpa, jfl_cpa, jfr_cpa, jai_cpa, jal_cpa, jar_cpa, jsz_cpa, jus_cpa]
    rw [hf, hs.2.2.2.2.2.2.1, pk_sub (by omega), show base + f - base = f by omega, nI_1]
  rw [e1]
  refine useV0 (k_faultInit (d := d) (Nat.succ_ne_zero _) (by simp only [jkd_wfi, jln_wfi, jfi_wfi, jfl_wfi, jfr_wfi, jai_wfi, jal_wfi, jar_wfi, jsz_wfi, jus_wfi, jkd_wfl, jln_wfl, jfi_wfl, jfl_wfl, jfr_wfl, jai_wfl, jal_wfl, jar_wfl, jsz_wfl, jus_wfl, jkd_wfr, jln_wfr, jfi_wfr, jfl_wfr, jfr_wfr, jai_wfr, jal_wfr, jar_wfr, jsz_wfr, jus_wfr, jkd_wai, jln_wai, jfi_wai, jfl_wai, jfr_wai, jai_wai, jal_wai, jar_wai, jsz_wai, jus_wai, jkd_wal, jln_wal, jfi_wal, jfl_wal, jfr_wal, jai_wal, jal_wal, jar_wal, jsz_wal, jus_wal, jkd_war, jln_war, jfi_war, jfl_war, jfr_war, jai_war, jal_war, jar_war, jsz_war, jus_war, jkd_nwo, jln_nwo, jfi_nwo, jfl_nwo, jfr_nwo, jai_nwo, jal_nwo, jar_nwo, jsz_nwo, jus_nwo, jkd_nwa, jln_nwa, jfi_nwa, jfl_nwa, jfr_nwa, jai_nwa, jal_nwa, jar_nwa, jsz_nwa, jus_nwa, jkd_cpa, jln_cpa, jfi_cpa, jfl_cpa, jfr_cpa, jai_cpa, jal_cpa, jar_cpa, jsz_cpa, jus_cpa, if_true]) (by simp only [jkd_wfi, jln_wfi, jfi_wfi, jfl_wfi, jfr_wfi, jai_wfi, jal_wfi, jar_wfi, jsz_wfi, jus_wfi, jkd_wfl, jln_wfl, jfi_wfl, jfl_wfl, jfr_wfl, jai_wfl, jal_wfl, jar_wfl, jsz_wfl, jus_wfl, jkd_wfr, jln_wfr, jfi_wfr, jfl_wfr, jfr_wfr, jai_wfr, jal_wfr, jar_wfr, jsz_wfr, jus_wfr, jkd_wai, jln_wai, jfi_wai, jfl_wai, jfr_wai, jai_wai, jal_wai, jar_wai, jsz_wai, jus_wai, jkd_wal, jln_wal, jfi_wal, jfl_wal, jfr_wal, jai_wal, jal_wal, jar_wal, jsz_wal, jus_wal, jkd_war, jln_war, jfi_war, jfl_war, jfr_war, jai_war, jal_war, jar_war, jsz_war, jus_war, jkd_nwo, jln_nwo, jfi_nwo, jfl_nwo, jfr_nwo, jai_nwo, jal_nwo, jar_nwo, jsz_nwo, jus_nwo, jkd_nwa, jln_nwa, jfi_nwa, jfl_nwa, jfr_nwa, jai_nwa, jal_nwa, jar_nwa, jsz_nwa, jus_nwa, jkd_cpa, jln_cpa, jfi_cpa, jfl_cpa, jfr_cpa, jai_cpa, jal_cpa, jar_cpa, jsz_cpa, jus_cpa]; exact hI.zi (by omega) 330) hs') ?_
  rintro h2 hI2 _ ⟨f1, f2, f3, f4, f5⟩
  have hnew : New h h2 1 8 := ⟨(fr_nwo (Nat.le_refl _)).tr (f2.mono (by simp only [jkd_wfi, jln_wfi, jfi_wfi, jfl_wfi, jfr_wfi, jai_wfi, jal_wfi, jar_wfi, jsz_wfi, jus_wfi, jkd_wfl, jln_wfl, jfi_wfl, jfl_wfl, jfr_wfl, jai_wfl, jal_wfl, jar_wfl, jsz_wfl, jus_wfl, jkd_wfr, jln_wfr, jfi_wfr, jfl_wfr, jfr_wfr, jai_wfr, jal_wfr, jar_wfr, jsz_wfr, jus_wfr, jkd_wai, jln_wai, jfi_wai, jfl_wai, jfr_wai, jai_wai, jal_wai, jar_wai, jsz_wai, jus_wai, jkd_wal, jln_wal, jfi_wal, jfl_wal, jfr_wal, jai_wal, jal_wal, jar_wal, jsz_wal, jus_wal, jkd_war, jln_war, jfi_war, jfl_war, jfr_war, jai_war, jal_war, jar_war, jsz_war, jus_war, jkd_nwo, jln_nwo, jfi_nwo, jfl_nwo, jfr_nwo, jai_nwo, jal_nwo, jar_nwo, jsz_nwo, jus_nwo, jkd_nwa, jln_nwa, jfi_nwa, jfl_nwa, jfr_nwa, jai_nwa, jal_nwa, jar_nwa, jsz_nwa, jus_nwa, jkd_cpa, jln_cpa, jfi_cpa, jfl_cpa, jfr_cpa, jai_cpa, jal_cpa, jar_cpa, jsz_cpa, jus_cpa]; omega) fun q hq e => by omega), by rw [f3]; simp only [jkd_wfi, jln_wfi, jfi_wfi, jfl_wfi, jfr_wfi, jai_wfi, jal_wfi, jar_wfi, jsz_wfi, jus_wfi, jkd_wfl, jln_wfl, jfi_wfl, jfl_wfl, jfr_wfl, jai_wfl, jal_wfl, jar_wfl, jsz_wfl, jus_wfl, jkd_wfr, jln_wfr, jfi_wfr, jfl_wfr, jfr_wfr, jai_wfr, jal_wfr, jar_wfr, jsz_wfr, jus_wfr, jkd_wai, jln_wai, jfi_wai, jfl_wai, jfr_wai, jai_wai, jal_wai, jar_wai, jsz_wai, jus_wai, jkd_wal, jln_wal, jfi_wal, jfl_wal, jfr_wal, jai_wal, jal_wal, jar_wal, jsz_wal, jus_wal, jkd_war, jln_war, jfi_war, jfl_war, jfr_war, jai_war, jal_war, jar_war, jsz_war, jus_war, jkd_nwo, jln_nwo, jfi_nwo, jfl_nwo, jfr_nwo, jai_nwo, jal_nwo, jar_nwo, jsz_nwo, jus_nwo, jkd_nwa, jln_nwa, jfi_nwa, jfl_nwa, jfr_nwa, jai_nwa, jal_nwa, jar_nwa, jsz_nwa, jus_nwa, jkd_cpa, jln_cpa, jfi_cpa, jfl_cpa, jfr_cpa, jai_cpa, jal_cpa, jar_cpa, jsz_cpa, jus_cpa]; omega, by rw [f3]; simp only [jkd_wfi, jln_wfi, jfi_wfi, jfl_wfi, jfr_wfi, jai_wfi, jal_wfi, jar_wfi, jsz_wfi, jus_wfi, jkd_wfl, jln_wfl, jfi_wfl, jfl_wfl, jfr_wfl, jai_wfl, jal_wfl, jar_wfl, jsz_wfl, jus_wfl, jkd_wfr, jln_wfr, jfi_wfr, jfl_wfr, jfr_wfr, jai_wfr, jal_wfr, jar_wfr, jsz_wfr, jus_wfr, jkd_wai, jln_wai, jfi_wai, jfl_wai, jfr_wai, jai_wai, jal_wai, jar_wai, jsz_wai, jus_wai, jkd_wal, jln_wal, jfi_wal, jfl_wal, jfr_wal, jai_wal, jal_wal, jar_wal, jsz_wal, jus_wal, jkd_war, jln_war, jfi_war, jfl_war, jfr_war, jai_war, jal_war, jar_war, jsz_war, jus_war, jkd_nwo, jln_nwo, jfi_nwo, jfl_nwo, jfr_nwo, jai_nwo, jal_nwo, jar_nwo, jsz_nwo, jus_nwo, jkd_nwa, jln_nwa, jfi_nwa, jfl_nwa, jfr_nwa, jai_nwa, jal_nwa, jar_nwa, jsz_nwa, jus_nwa, jkd_cpa, jln_cpa, jfi_cpa, jfl_cpa, jfr_cpa, jai_cpa, jal_cpa, jar_cpa, jsz_cpa, jus_cpa]; omega, by rw [f4]; simp only [jkd_wfi, jln_wfi, jfi_wfi, jfl_wfi, jfr_wfi, jai_wfi, jal_wfi, jar_wfi, jsz_wfi, jus_wfi, jkd_wfl, jln_wfl, jfi_wfl, jfl_wfl, jfr_wfl, jai_wfl, jal_wfl, jar_wfl, jsz_wfl, jus_wfl, jkd_wfr, jln_wfr, jfi_wfr, jfl_wfr, jfr_wfr, jai_wfr, jal_wfr, jar_wfr, jsz_wfr, jus_wfr, jkd_wai, jln_wai, jfi_wai, jfl_wai, jfr_wai, jai_wai, jal_wai, jar_wai, jsz_wai, jus_wai, jkd_wal, jln_wal, jfi_wal, jfl_wal, jfr_wal, jai_wal, jal_wal, jar_wal, jsz_wal, jus_wal, jkd_war, jln_war, jfi_war, jfl_war, jfr_war, jai_war, jal_war, jar_war, jsz_war, jus_war, jkd_nwo, jln_nwo, jfi_nwo, jfl_nwo, jfr_nwo, jai_nwo, jal_nwo, jar_nwo, jsz_nwo, jus_nwo, jkd_nwa, jln_nwa, jfi_nwa, jfl_nwa, jfr_nwa, jai_nwa, jal_nwa, jar_nwa, jsz_nwa, jus_nwa, jkd_cpa, jln_cpa, jfi_cpa, jfl_cpa, jfr_cpa, jai_cpa, jal_cpa, jar_cpa, jsz_cpa, jus_cpa]; omega, fun F q hF => (f5 F q hF).trans rfl⟩
  exact endR fun _ _ _ => ⟨f1, hnew.sg⟩
theorem dig_n {c : Int32} (h : sDigit c = true) : ∃ k, 48 ≤ k ∧ k ≤ 57 ∧ c = nI k := by
  simp only [sDigit, Bool.and_eq_true, decide_eq_true_eq] at h
  have h0 : ¬ c < 0 := fun z => absurd (Int32.lt_of_lt_of_le z (Int32.le_trans (by decide) h.1)) Int32.lt_irrefl
  obtain ⟨j, hj, rfl⟩ := nI_of h0
  exact ⟨j, (nI_leI (a := 48) (by decide) hj).mp h.1, (nI_leI (b := 57) hj (by decide)).mp h.2, rfl⟩
theorem sMost_n : sMost = lN 9007199254740991 := rfl
/-- one digit more, as the specification and as the program count -/
theorem num_step {m w k : Nat} (hk : 48 ≤ k ∧ k ≤ 57) (hm : m ≤ 10 ^ 17) (hw : w ≤ 10 ^ 17) (hr : (m = w ∧ w ≤ 9007199254740991) ∨ (9007199254740991 < m ∧ 9007199254740991 < w)) :
    ∃ m' w', m' ≤ 10 ^ 17 ∧ w' ≤ 10 ^ 17 ∧ ((m' = w' ∧ w' ≤ 9007199254740991) ∨ (9007199254740991 < m' ∧ 9007199254740991 < w')) ∧
      (if lN (10 ^ 17) < (10 * lN m + Int32.toInt64 (nI k) - 48) then lN (10 ^ 17) else (10 * lN m + Int32.toInt64 (nI k) - 48)) = lN m' ∧ (if lN w ≤ sMost then 10 * lN w + (nI k).toInt64 - 48 else lN w) = lN w' := by
  have e1 : ∀ x, 10 * lN x + Int32.toInt64 (nI k) - 48 = lN (10 * x + k - 48) := fun x => by
    rw [nI_l (by omega), show (10 : Int64) = lN 10 from rfl, show (48 : Int64) = lN 48 from rfl, lN_mul, lN_add, lN_sub (by omega)]
  refine ⟨if 10 ^ 17 < 10 * m + k - 48 then 10 ^ 17 else 10 * m + k - 48, if w ≤ 9007199254740991 then 10 * w + k - 48 else w, ?_, ?_, ?_, ?_, ?_⟩
  · split <;> omega
  · split <;> omega
  · split <;> split <;> omega
  · rw [e1]
    by_cases z : 10 ^ 17 < 10 * m + k - 48
    · rw [if_pos z, if_pos ((pk_lLT (by omega) (by omega)).mpr z)]
    · rw [if_neg z, if_neg (fun y => z ((pk_lLT (by omega) (by omega)).mp y))]
  · rw [e1, sMost_n]
    by_cases z : w ≤ 9007199254740991
    · rw [if_pos z, if_pos ((pk_lLE (by omega) (by omega)).mpr z)]
    · rw [if_neg z, if_neg (fun y => z ((pk_lLE (by omega) (by omega)).mp y))]
/-- the digits are read; f: how many signs may come yet -/
theorem k_num_l {D : JD} {d : Nat} {s a base fm : Nat} {src : Str} {Q : JO → JH → Prop} (hfm : fm ≤ 100000) : ∀ (f p m w : Nat) (h : JH), SgB h s a base src p → src.length ≤ f + p → jfl h 89 s = lN m → jfi h 87 s = nI (base + fm) → m ≤ 10 ^ 17 → w ≤ 10 ^ 17 → ((m = w ∧ w ≤ 9007199254740991) ∨ (9007199254740991 < m ∧ 9007199254740991 < w)) →
    (∀ h', sNum src f p (lN w) ≤ sMost → SgB h' s a base src (sNumEnd src f p) → SgG h h' s 0 0 → jfl h' 89 s = sNum src f p (lN w) → (∀ F, F ≠ 85 → jfi h' F s = jfi h F s) → (∀ F, jfr h' F s = jfr h F s) → Q (.inl none) h') →
    (∀ x h', sMost < sNum src f p (lN w) → FtR h' x (sStr "42601") (nI (fm + 1)) → SgG h h' s 1 8 → Q (.inr x) h') → L_X18_number_12 D (d + 7) Q (f + 1) s h := by
  intro f
  induction f with
  | zero =>
    intro p m w h hs hf hm hfr hm1 hw1 hr hQ hE
    refine ⟨hs.2.1, useI0 (k_look (k := 0) hs rfl (by decide)) ?_⟩
    rintro v h1 _ _ ⟨rfl, rfl⟩
    refine useI0 k_digit ?_
    rintro v h2 _ _ ⟨rfl, rfl⟩
    have hnd : sDigit (sLk src (p + 0)) = false := by rw [lk_out (by omega)]; decide
    rw [hnd]
    refine ⟨fun _ => ⟨fun z => ?_, fun z => ?_⟩, fun z => absurd rfl z⟩
    · rw [cmp_le, hm] at z
      have hle : m ≤ 9007199254740991 := by
        rcases Nat.lt_or_ge 9007199254740991 m with q | q
        · exact absurd ((pk_lLT (by omega) (by omega)).mpr q) z
        · exact q
      have hmw : m = w ∧ w ≤ 9007199254740991 := by omega
      exact hQ h2 (by unfold sNum; rw [sMost_n]; exact (pk_lLE (by omega) (by omega)).mpr hmw.2) hs (SgG.rf h2 s) (by unfold sNum; rw [hm, hmw.1]) (fun _ _ => rfl) (fun _ => rfl)
    · rw [cmp_le, Classical.not_not, hm] at z
      have hlt : 9007199254740991 < m := (pk_lLT (a := 9007199254740991) (by omega) (by omega)).mp z
      refine useR0 (k_broken hs hfr hfm) ?_
      rintro x h3 _ _ ⟨f1, f2⟩
      exact ⟨f1.1, hE x h3 (by unfold sNum; rw [sMost_n]; exact (pk_lLT (by omega) (by omega)).mpr (by omega)) f1 f2⟩
  | succ f ih =>
    intro p m w h hs hf hm hfr hm1 hw1 hr hQ hE
    refine ⟨hs.2.1, useI0 (k_look (k := 0) hs rfl (by decide)) ?_⟩
    rintro v h1 _ _ ⟨rfl, rfl⟩
    refine useI0 k_digit ?_
    rintro v h2 _ _ ⟨rfl, rfl⟩
    simp only [Nat.add_zero]
    unfold sNum sNumEnd at hQ
    unfold sNum at hE
    by_cases hd : sDigit (sLk src p) = true
    · rw [if_pos hd] at hQ hE
      rw [if_pos hd] at hQ
      rw [if_pos hd]
      refine ⟨fun z => absurd z (by decide), fun _ => useI0 (k_look (k := 0) hs rfl (by decide)) ?_⟩
      rintro v h3 _ _ ⟨rfl, rfl⟩
      simp only [Nat.add_zero]
      obtain ⟨k, hk1, hk2, hk3⟩ := dig_n hd
      rw [hk3] at hQ hE ⊢
      obtain ⟨m', w', q1, q2, q3, q4, q5⟩ := num_step ⟨hk1, hk2⟩ hm1 hw1 hr
      rw [q5] at hQ hE
      rw [hm]
      refine useL0 k_minL ?_
      rintro v h4 _ _ ⟨rfl, rfl⟩
      rw [show (100000000000000000 : Int64) = lN (10 ^ 17) from rfl, q4]
      rintro h5 rfl h6 rfl
      have hp : p < src.length := by
        rcases Nat.lt_or_ge p src.length with q | q
        · exact q
        · rw [lk_out q] at hd; exact absurd hd (by decide)
      have e85 : jfi (wfl h4 89 s (lN m')) 85 s + 1 = nI (base + (p + 1)) := by
        rw [jfi_wfl, hs.2.2.2.2.2.2.2.2.2.2.1, nI_1]; congr 1
      rw [e85]
      have hs2 : SgB (wfi (wfl h4 89 s (lN m')) 85 s (nI (base + (p + 1)))) s a base src (p + 1) := (hs.fl (F := 89) (v := lN m')).at (by omega)
      have hf2 : SgG h4 (wfi (wfl h4 89 s (lN m')) 85 s (nI (base + (p + 1)))) s 0 0 := (SgG.fl _).tr (SgG.fi _)
      refine ih (p + 1) m' w' _ hs2 (by omega) (by simp only [jkd_wfi, jln_wfi, jfi_wfi, jfl_wfi, jfr_wfi, jai_wfi, jal_wfi, jar_wfi, jsz_wfi, jus_wfi, jkd_wfl, jln_wfl, jfi_wfl, jfl_wfl, jfr_wfl, jai_wfl, jal_wfl, jar_wfl, jsz_wfl, jus_wfl, jkd_wfr, jln_wfr, jfi_wfr, jfl_wfr, jfr_wfr, jai_wfr, jal_wfr, jar_wfr, jsz_wfr, jus_wfr, jkd_wai, jln_wai, jfi_wai, jfl_wai, jfr_wai, jai_wai, jal_wai, jar_wai, jsz_wai, jus_wai, jkd_wal, jln_wal, jfi_wal, jfl_wal, jfr_wal, jai_wal, jal_wal, jar_wal, jsz_wal, jus_wal, jkd_war, jln_war, jfi_war, jfl_war, jfr_war, jai_war, jal_war, jar_war, jsz_war, jus_war, jkd_nwo, jln_nwo, jfi_nwo, jfl_nwo, jfr_nwo, jai_nwo, jal_nwo, jar_nwo, jsz_nwo, jus_nwo, jkd_nwa, jln_nwa, jfi_nwa, jfl_nwa, jfr_nwa, jai_nwa, jal_nwa, jar_nwa, jsz_nwa, jus_nwa, jkd_cpa, jln_cpa, jfi_cpa, jfl_cpa, jfr_cpa, jai_cpa, jal_cpa, jar_cpa, jsz_cpa, jus_cpa, and_self, if_true]) (by simp only [jkd_wfi, jln_wfi, jfi_wfi, jfl_wfi, jfr_wfi, jai_wfi, jal_wfi, jar_wfi, jsz_wfi, jus_wfi, jkd_wfl, jln_wfl, jfi_wfl, jfl_wfl, jfr_wfl, jai_wfl, jal_wfl, jar_wfl, jsz_wfl, jus_wfl, jkd_wfr, jln_wfr, jfi_wfr, jfl_wfr, jfr_wfr, jai_wfr, jal_wfr, jar_wfr, jsz_wfr, jus_wfr, jkd_wai, jln_wai, jfi_wai, jfl_wai, jfr_wai, jai_wai, jal_wai, jar_wai, jsz_wai, jus_wai, jkd_wal, jln_wal, jfi_wal, jfl_wal, jfr_wal, jai_wal, jal_wal, jar_wal, jsz_wal, jus_wal, jkd_war, jln_war, jfi_war, jfl_war, jfr_war, jai_war, jal_war, jar_war, jsz_war, jus_war, jkd_nwo, jln_nwo, jfi_nwo, jfl_nwo, jfr_nwo, jai_nwo, jal_nwo, jar_nwo, jsz_nwo, jus_nwo, jkd_nwa, jln_nwa, jfi_nwa, jfl_nwa, jfr_nwa, jai_nwa, jal_nwa, jar_nwa, jsz_nwa, jus_nwa, jkd_cpa, jln_cpa, jfi_cpa, jfl_cpa, jfr_cpa, jai_cpa, jal_cpa, jar_cpa, jsz_cpa, jus_cpa, Nat.reduceEqDiff, false_and, if_false]; exact hfr) q1 q2 q3 ?_ ?_
      · intro h' g1 g2 g3 g4 g5 g6
        exact hQ h' g1 g2 ((hf2.tr g3).mono (by omega) (by omega)) g4 (fun F hF => (g5 F hF).trans (by simp only [jkd_wfi, jln_wfi, jfi_wfi, jfl_wfi, jfr_wfi, jai_wfi, jal_wfi, jar_wfi, jsz_wfi, jus_wfi, jkd_wfl, jln_wfl, jfi_wfl, jfl_wfl, jfr_wfl, jai_wfl, jal_wfl, jar_wfl, jsz_wfl, jus_wfl, jkd_wfr, jln_wfr, jfi_wfr, jfl_wfr, jfr_wfr, jai_wfr, jal_wfr, jar_wfr, jsz_wfr, jus_wfr, jkd_wai, jln_wai, jfi_wai, jfl_wai, jfr_wai, jai_wai, jal_wai, jar_wai, jsz_wai, jus_wai, jkd_wal, jln_wal, jfi_wal, jfl_wal, jfr_wal, jai_wal, jal_wal, jar_wal, jsz_wal, jus_wal, jkd_war, jln_war, jfi_war, jfl_war, jfr_war, jai_war, jal_war, jar_war, jsz_war, jus_war, jkd_nwo, jln_nwo, jfi_nwo, jfl_nwo, jfr_nwo, jai_nwo, jal_nwo, jar_nwo, jsz_nwo, jus_nwo, jkd_nwa, jln_nwa, jfi_nwa, jfl_nwa, jfr_nwa, jai_nwa, jal_nwa, jar_nwa, jsz_nwa, jus_nwa, jkd_cpa, jln_cpa, jfi_cpa, jfl_cpa, jfr_cpa, jai_cpa, jal_cpa, jar_cpa, jsz_cpa, jus_cpa, hF, false_and, if_false])) (fun F => (g6 F).trans rfl)
      · intro x h' g1 g2 g3
        exact hE x h' g1 g2 ((hf2.tr g3).mono (by omega) (by omega))
    · rw [if_neg hd] at hQ hE
      rw [if_neg hd] at hQ
      rw [if_neg hd]
      refine ⟨fun _ => ⟨fun z => ?_, fun z => ?_⟩, fun z => absurd rfl z⟩
      · rw [cmp_le, hm] at z
        have hle : m ≤ 9007199254740991 := by
          rcases Nat.lt_or_ge 9007199254740991 m with q | q
          · exact absurd ((pk_lLT (by omega) (by omega)).mpr q) z
          · exact q
        have hmw : m = w ∧ w ≤ 9007199254740991 := by omega
        exact hQ h2 (by rw [sMost_n]; exact (pk_lLE (by omega) (by omega)).mpr hmw.2) hs (SgG.rf h2 s) (by rw [hm, hmw.1]) (fun _ _ => rfl) (fun _ => rfl)
      · rw [cmp_le, Classical.not_not, hm] at z
        have hlt : 9007199254740991 < m := (pk_lLT (a := 9007199254740991) (by omega) (by omega)).mp z
        refine useR0 (k_broken hs hfr hfm) ?_
        rintro x h3 _ _ ⟨f1, f2⟩
        exact ⟨f1.1, hE x h3 (by rw [sMost_n]; exact (pk_lLT (by omega) (by omega)).mpr (by omega)) f1 f2⟩
