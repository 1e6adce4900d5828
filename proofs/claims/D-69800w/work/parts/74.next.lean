/-! signs of the component: the next sign -/
theorem k_quoted {D : JD} {d : Nat} {h : JH} {s a base p fm : Nat} {src : Str} (hs : SgB h s a base src p) (hp : p < src.length) (hc : CelW D h (jfr h 90 s)) (hfr : jfi h 87 s = nI (base + fm)) (hfm : fm ≤ 100000) :
    cX18_quoted D (d + 9) s h (pV D h (fun h' => ∃ j t, sQuoted src (src.length + 1) (p + 1) [] = some (j, t) ∧ SgB h' s a base src j ∧ Cel D h' (jfr h' 90 s) (vTxt t) ∧ SgF h h' s 3 120 ∧ (∀ F, F ≠ 85 → jfi h' F s = jfi h F s) ∧ (∀ F, F ≠ 86 → jfr h' F s = jfr h F s) ∧ jfr h' 86 s = jcs D 353)
      (fun x h' => sQuoted src (src.length + 1) (p + 1) [] = none ∧ FtR h' x (sStr "42601") (nI (fm + 1)) ∧ SgF h h' s 3 120)) := by
  refine JW.inv fun hI => t_X18_quoted ⟨hs.2.1, ?_⟩
  have hsl := hs.lt hI
  rintro h1 rfl
  have e90 : jfr (wfr h 86 s (jcs D 353)) 90 s = jfr h 90 s := by simp only [jkd_wfi, jln_wfi, jfi_wfi, jfl_wfi, jfr_wfi, jai_wfi, jal_wfi, jar_wfi, jsz_wfi, jus_wfi, jkd_wfl, jln_wfl, jfi_wfl, jfl_wfl, jfr_wfl, jai_wfl, jal_wfl, jar_wfl, jsz_wfl, jus_wfl, jkd_wfr, jln_wfr, jfi_wfr, jfl_wfr, jfr_wfr, jai_wfr, jal_wfr, jar_wfr, jsz_wfr, jus_wfr, jkd_wai, jln_wai, jfi_wai, jfl_wai, jfr_wai, jai_wai, jal_wai, jar_wai, jsz_wai, jus_wai, jkd_wal, jln_wal, jfi_wal, jfl_wal, jfr_wal, jai_wal, jal_wal, jar_wal, jsz_wal, jus_wal, jkd_war, jln_war, jfi_war, jfl_war, jfr_war, jai_war, jal_war, jar_war, jsz_war, jus_war, jkd_nwo, jln_nwo, jfi_nwo, jfl_nwo, jfr_nwo, jai_nwo, jal_nwo, jar_nwo, jsz_nwo, jus_nwo, jkd_nwa, jln_nwa, jfi_nwa, jfl_nwa, jfr_nwa, jai_nwa, jal_nwa, jar_nwa, jsz_nwa, jus_nwa, jkd_cpa, jln_cpa, jfi_cpa, jfl_cpa, jfr_cpa, jai_cpa, jal_cpa, jar_cpa, jsz_cpa, jus_cpa, Nat.reduceEqDiff, false_and, if_false]
  have hcs : jfr h 90 s ≠ s := fun e => by have := hc.2.1; rw [e, hs.1] at this; cases this
  have hrs : jfr h 67 (jfr h 90 s) ≠ 0 → jfr h 67 (jfr h 90 s) ≠ s := fun h0 e => by
    rcases hc.2.2.2.2 with w | w
    · exact h0 w
    · rw [e, hs.1] at w; exact absurd w.1 (by decide)
  have hc1 : CelW D (wfr h 86 s (jcs D 353)) (jfr h 90 s) := hc.of (same_wfr hcs) (fun h0 => same_wfr (hrs h0))
  have hs1 : SgB (wfr h 86 s (jcs D 353)) s a base src p := hs.fr (by decide)
  rw [e90]
  refine ⟨hc.1, JW.inv fun hI1 => useR0 (k_cRoom (d := d + 7) hc1) ?_⟩
  rintro r h2 hI2 hle2 ⟨v1, v2, v3, v4, v5, v6, v7, v8⟩
  have sf1 : SgF h (wfr h 86 s (jcs D 353)) s 0 0 := SgF.rf' (by decide) (by decide)
  have sf2 := v4.sg hI1 hc1 hs1.1 e90
  have n1 : ∀ q, jkd h q = 15 ∨ jkd h q = 123 → q ≤ jsz h → same (wfr h 86 s (jcs D 353)) h2 q := fun q hk hq => v4.1 q hq (by
    rintro (w | w)
    · have := hc1.2.1
      rw [← w] at this
      have hk' : jkd (wfr h 86 s (jcs D 353)) q = jkd h q := rfl
      rw [hk'] at this
      rcases hk with e | e <;> (rw [e] at this; cases this)
    · rcases hc1.2.2.2.2 with y | y
      · rw [y] at w; rw [w] at hk
        have h0 : jkd h 0 = 0 := by
          by_cases e : jkd h 0 = 0
          · exact e
          · exact absurd (hI.1 0 e).1 (by decide)
        rw [h0] at hk; omega
      · have hk' : jkd (wfr h 86 s (jcs D 353)) q = jkd h q := rfl
        rw [← w, hk'] at y
        omega)
  have ss2 := n1 s (Or.inl hs.1) hsl.1
  have sa2 := n1 a (Or.inr hs.2.2.2.2.1) hsl.2
  have hs2 : SgB h2 s a base src p := hs1.of ss2 sa2
  rintro h3 rfl
  rw [hs2.2.2.2.2.2.2.2.2.2.2.1, nI_1, show base + p + 1 = base + (p + 1) by omega]
  have hq0 : QtI D h h2 s a base src (jfr h 90 s) r [] p := by
    refine ⟨hs2, by rw [ss2.fr]; exact e90, v3, v1.symm, v2, by simp, fun i b hb => by simp at hb, (sf1.tr sf2).mono (by omega) (by omega), fun F hF => by rw [ss2.fi]; rfl, fun F => by rw [ss2.fl]; rfl, fun F hF => by rw [ss2.fr, jfr_wfr, if_neg fun z => hF z.1], by rw [ss2.fr, jfr_wfr, if_pos ⟨rfl, rfl⟩]⟩
  have hq1 := hq0.at hI2 (q := p + 1) (by omega)
  refine ⟨src.length + 1, k_quoted_l hfm hfr (src.length + 1) (p + 1) [] _ hq1 (by omega) ?_ ?_⟩
  · intro j t h' g1 g2 g3 g4 g5 g6 g7 g8
    exact endV fun _ _ => ⟨j, t, g1, g2, by rw [g4]; exact g3, g5.mono (by omega) (by omega), g6, g7, g8⟩
  · intro x h' g1 g2 g3
    exact fun _ _ => ⟨g1, g2, g3.mono (by omega) (by omega)⟩
theorem k_sgNumber {D : JD} {d : Nat} {h : JH} {s a base p fm : Nat} {src : Str} (hs : SgB h s a base src p) (hfr : jfi h 87 s = nI (base + fm)) (hfm : fm ≤ 100000) :
    cX18_number D (d + 8) s h (pV D h (fun h' => sNum src src.length p 0 ≤ sMost ∧ SgB h' s a base src (sNumEnd src src.length p) ∧ SgG h h' s 0 0 ∧ jfl h' 89 s = sNum src src.length p 0 ∧ (∀ F, F ≠ 85 → jfi h' F s = jfi h F s) ∧ (∀ F, F ≠ 86 → jfr h' F s = jfr h F s) ∧ jfr h' 86 s = jcs D 352)
      (fun x h' => sMost < sNum src src.length p 0 ∧ FtR h' x (sStr "42601") (nI (fm + 1)) ∧ SgG h h' s 1 8)) := by
  refine t_X18_number ⟨hs.2.1, ?_⟩
  rintro h1 rfl h2 rfl
  have hs2 : SgB (wfl (wfr h 86 s (jcs D 352)) 89 s 0) s a base src p := (hs.fr (F := 86) (v := jcs D 352) (by decide)).fl
  have sg : SgG h (wfl (wfr h 86 s (jcs D 352)) 89 s 0) s 0 0 := (SgG.rf' (by decide) (by decide)).tr (SgG.fl _)
  refine ⟨src.length + 1, k_num_l hfm src.length p 0 0 _ hs2 (by omega) (by simp only [jkd_wfi, jln_wfi, jfi_wfi, jfl_wfi, jfr_wfi, jai_wfi, jal_wfi, jar_wfi, jsz_wfi, jus_wfi, jkd_wfl, jln_wfl, jfi_wfl, jfl_wfl, jfr_wfl, jai_wfl, jal_wfl, jar_wfl, jsz_wfl, jus_wfl, jkd_wfr, jln_wfr, jfi_wfr, jfl_wfr, jfr_wfr, jai_wfr, jal_wfr, jar_wfr, jsz_wfr, jus_wfr, jkd_wai, jln_wai, jfi_wai, jfl_wai, jfr_wai, jai_wai, jal_wai, jar_wai, jsz_wai, jus_wai, jkd_wal, jln_wal, jfi_wal, jfl_wal, jfr_wal, jai_wal, jal_wal, jar_wal, jsz_wal, jus_wal, jkd_war, jln_war, jfi_war, jfl_war, jfr_war, jai_war, jal_war, jar_war, jsz_war, jus_war, jkd_nwo, jln_nwo, jfi_nwo, jfl_nwo, jfr_nwo, jai_nwo, jal_nwo, jar_nwo, jsz_nwo, jus_nwo, jkd_nwa, jln_nwa, jfi_nwa, jfl_nwa, jfr_nwa, jai_nwa, jal_nwa, jar_nwa, jsz_nwa, jus_nwa, jkd_cpa, jln_cpa, jfi_cpa, jfl_cpa, jfr_cpa, jai_cpa, jal_cpa, jar_cpa, jsz_cpa, jus_cpa, and_self, if_true]; rfl) hfr (by decide) (by decide) (Or.inl ⟨rfl, by decide⟩) ?_ ?_⟩
  · intro h' g1 g2 g3 g4 g5 g6
    refine endV fun _ _ => ⟨g1, g2, (sg.tr g3).mono (by omega) (by omega), g4, fun F hF => (g5 F hF).trans rfl, fun F hF => by rw [g6, jfr_wfl, jfr_wfr, if_neg fun z => hF z.1], by rw [g6, jfr_wfl, jfr_wfr, if_pos ⟨rfl, rfl⟩]⟩
  · intro x h' g1 g2 g3
    exact fun _ _ => ⟨g1, g2, (sg.tr g3).mono (by omega) (by omega)⟩
/-- the constant of a kind of sign -/
def kcon (D : JD) (k : Nat) : Nat := jcs D (if k = 0 then 350 else if k = 1 ∨ k = 2 then 351 else if k = 3 then 352 else if k = 4 then 353 else if k = 5 then 354 else 355)
/-- the signs s stand at the sign t -/
def SgT (D : JD) (h : JH) (s a base : Nat) (src : Str) (t : Tok) : Prop :=
  SgB h s a base src (tkT t) ∧ jfi h 87 s = nI (base + tkF t) ∧ jfr h 86 s = kcon D (tkK t) ∧ StR h (jfr h 88 s) (tkW t) ∧ ((tkK t = 3 ∨ tkK t = 5) → jfl h 89 s = tkN t) ∧ CelW D h (jfr h 90 s) ∧ (tkK t = 4 → Cel D h (jfr h 90 s) (vTxt (tkS t))) ∧ tkF t ≤ src.length
theorem CelW.sg {D : JD} {h h' : JH} {s n m : Nat} (hI : JInv D h) (hc : CelW D h (jfr h 90 s)) (hg : SgG h h' s n m) (hs : jkd h s = 15) : CelW D h' (jfr h' 90 s) := by
  rw [hg.1.2.1]
  have hl := hc.lt hI
  refine hc.of (hg.2 _ hl.1 fun e => ?_) fun h0 => hg.2 _ hl.2 fun e => ?_
  · have := hc.2.1; rw [e, hs] at this; cases this
  · rcases hc.2.2.2.2 with w | w
    · exact h0 w
    · rw [e, hs] at w; exact absurd w.1 (by decide)
/-- what the sign t costs: objects, slots -/
def nxN (t : Tok) : Nat := if tkK t = 1 ∨ tkK t = 2 then 6 else if tkK t = 4 then 3 else 0
def nxM (t : Tok) : Nat := if tkK t = 1 ∨ tkK t = 2 then 160 else if tkK t = 4 then 120 else 0
theorem nxN_le (t : Tok) : nxN t ≤ 6 := by unfold nxN; split; exact Nat.le_refl _; split <;> decide
theorem nxM_le (t : Tok) : nxM t ≤ 160 := by unfold nxM; split; exact Nat.le_refl _; split <;> decide
theorem k_nextT {D : JD} {d : Nat} {h : JH} {s a base p : Nat} {src : Str} (hs : SgB h s a base src p) (hc : CelW D h (jfr h 90 s)) (hsm : src.length < 30000) :
    cX18_next D (d + 10) s h (pV D h (fun h' => tkK (sTok src p) ≠ 7 ∧ SgT D h' s a base src (sTok src p) ∧ SgF h h' s (nxN (sTok src p)) (nxM (sTok src p)))
      (fun x h' => tkK (sTok src p) = 7 ∧ FtR h' x (sStr "42601") (nI (tkF (sTok src p) + 1)) ∧ SgF h h' s (8 + src.length) (200 + 8 * src.length))) := by
  have hsk := sSkip_le src (src.length + 1) p hs.2.2.2.2.2.2.2.2.2.2.2
  refine JW.inv fun hI => t_X18_next ⟨hs.2.1, useV0 (k_skip (d := d + 7) hs) ?_⟩
  rintro h1 hI1 _ rfl
  generalize hi : sSkip src (src.length + 1) p = i at hsk
  have hs1 : SgB (wfi h 85 s (nI (base + i))) s a base src i := hs.at hsk.2
  have g1 : SgG h (wfi h 85 s (nI (base + i))) s 0 0 := SgG.fi _
  rintro h2 rfl
  have e85 : jfi (wfi h 85 s (nI (base + i))) 85 s = nI (base + i) := by simp only [jkd_wfi, jln_wfi, jfi_wfi, jfl_wfi, jfr_wfi, jai_wfi, jal_wfi, jar_wfi, jsz_wfi, jus_wfi, jkd_wfl, jln_wfl, jfi_wfl, jfl_wfl, jfr_wfl, jai_wfl, jal_wfl, jar_wfl, jsz_wfl, jus_wfl, jkd_wfr, jln_wfr, jfi_wfr, jfl_wfr, jfr_wfr, jai_wfr, jal_wfr, jar_wfr, jsz_wfr, jus_wfr, jkd_wai, jln_wai, jfi_wai, jfl_wai, jfr_wai, jai_wai, jal_wai, jar_wai, jsz_wai, jus_wai, jkd_wal, jln_wal, jfi_wal, jfl_wal, jfr_wal, jai_wal, jal_wal, jar_wal, jsz_wal, jus_wal, jkd_war, jln_war, jfi_war, jfl_war, jfr_war, jai_war, jal_war, jar_war, jsz_war, jus_war, jkd_nwo, jln_nwo, jfi_nwo, jfl_nwo, jfr_nwo, jai_nwo, jal_nwo, jar_nwo, jsz_nwo, jus_nwo, jkd_nwa, jln_nwa, jfi_nwa, jfl_nwa, jfr_nwa, jai_nwa, jal_nwa, jar_nwa, jsz_nwa, jus_nwa, jkd_cpa, jln_cpa, jfi_cpa, jfl_cpa, jfr_cpa, jai_cpa, jal_cpa, jar_cpa, jsz_cpa, jus_cpa, and_self, if_true]
  rw [e85]
  have hs2 : SgB (wfi (wfi h 85 s (nI (base + i))) 87 s (nI (base + i))) s a base src i := hs1.fi (by decide) (by decide) (by decide)
  have g2 : SgG h (wfi (wfi h 85 s (nI (base + i))) 87 s (nI (base + i))) s 0 0 := g1.tr (SgG.fi _)
  have e87 : jfi (wfi (wfi h 85 s (nI (base + i))) 87 s (nI (base + i))) 87 s = nI (base + i) := by simp only [jkd_wfi, jln_wfi, jfi_wfi, jfl_wfi, jfr_wfi, jai_wfi, jal_wfi, jar_wfi, jsz_wfi, jus_wfi, jkd_wfl, jln_wfl, jfi_wfl, jfl_wfl, jfr_wfl, jai_wfl, jal_wfl, jar_wfl, jsz_wfl, jus_wfl, jkd_wfr, jln_wfr, jfi_wfr, jfl_wfr, jfr_wfr, jai_wfr, jal_wfr, jar_wfr, jsz_wfr, jus_wfr, jkd_wai, jln_wai, jfi_wai, jfl_wai, jfr_wai, jai_wai, jal_wai, jar_wai, jsz_wai, jus_wai, jkd_wal, jln_wal, jfi_wal, jfl_wal, jfr_wal, jai_wal, jal_wal, jar_wal, jsz_wal, jus_wal, jkd_war, jln_war, jfi_war, jfl_war, jfr_war, jai_war, jal_war, jar_war, jsz_war, jus_war, jkd_nwo, jln_nwo, jfi_nwo, jfl_nwo, jfr_nwo, jai_nwo, jal_nwo, jar_nwo, jsz_nwo, jus_nwo, jkd_nwa, jln_nwa, jfi_nwa, jfl_nwa, jfr_nwa, jai_nwa, jal_nwa, jar_nwa, jsz_nwa, jus_nwa, jkd_cpa, jln_cpa, jfi_cpa, jfl_cpa, jfr_cpa, jai_cpa, jal_cpa, jar_cpa, jsz_cpa, jus_cpa, and_self, if_true]
  generalize hh2 : wfi (wfi h 85 s (nI (base + i))) 87 s (nI (base + i)) = h2 at hs2 g2 e87 ⊢
  refine JW.inv fun hI2 => useI0 (k_look (k := 0) hs2 rfl (by decide)) ?_
  rintro v h2' _ _ ⟨rfl, rfl⟩
  rintro h3 rfl
  simp only [Nat.add_zero]
  have hs3 : SgB (wfr h2' 88 s (jcs D 10)) s a base src i := hs2.fr (by decide)
  have g3 : SgG h (wfr h2' 88 s (jcs D 10)) s 0 0 := g2.tr (SgG.rf' (by decide) (by decide))
  have e87' : jfi (wfr h2' 88 s (jcs D 10)) 87 s = nI (base + i) := e87
  have st3 : StR (wfr h2' 88 s (jcs D 10)) (jfr (wfr h2' 88 s (jcs D 10)) 88 s) [] := by
    have hst := k_const hI2 (j := 10) (by decide)
    rw [show jcon 10 = [] by decide +kernel] at hst
    rw [show jfr (wfr h2' 88 s (jcs D 10)) 88 s = jcs D 10 by simp only [jkd_wfi, jln_wfi, jfi_wfi, jfl_wfi, jfr_wfi, jai_wfi, jal_wfi, jar_wfi, jsz_wfi, jus_wfi, jkd_wfl, jln_wfl, jfi_wfl, jfl_wfl, jfr_wfl, jai_wfl, jal_wfl, jar_wfl, jsz_wfl, jus_wfl, jkd_wfr, jln_wfr, jfi_wfr, jfl_wfr, jfr_wfr, jai_wfr, jal_wfr, jar_wfr, jsz_wfr, jus_wfr, jkd_wai, jln_wai, jfi_wai, jfl_wai, jfr_wai, jai_wai, jal_wai, jar_wai, jsz_wai, jus_wai, jkd_wal, jln_wal, jfi_wal, jfl_wal, jfr_wal, jai_wal, jal_wal, jar_wal, jsz_wal, jus_wal, jkd_war, jln_war, jfi_war, jfl_war, jfr_war, jai_war, jal_war, jar_war, jsz_war, jus_war, jkd_nwo, jln_nwo, jfi_nwo, jfl_nwo, jfr_nwo, jai_nwo, jal_nwo, jar_nwo, jsz_nwo, jus_nwo, jkd_nwa, jln_nwa, jfi_nwa, jfl_nwa, jfr_nwa, jai_nwa, jal_nwa, jar_nwa, jsz_nwa, jus_nwa, jkd_cpa, jln_cpa, jfi_cpa, jfl_cpa, jfr_cpa, jai_cpa, jal_cpa, jar_cpa, jsz_cpa, jus_cpa, and_self, if_true]]
    refine hst.of (same_wfr fun e => ?_) (same_wfr fun e => ?_)
    · have := hst.2.1; rw [e, hs2.1] at this; omega
    · have := hst.2.2.2.2.1; rw [e, hs2.1] at this; omega
  have hk3 : jkd h s = 15 := hs.1
  generalize hh3 : wfr h2' 88 s (jcs D 10) = h3 at hs3 g3 e87' st3 ⊢
  have tok : ∀ (t : Tok), sTok src p = t → tkF t = i → tkK t ≠ 7 → ∀ h', SgT D h' s a base src t → SgF h h' s (nxN t) (nxM t) → (pV D h (fun h' => tkK (sTok src p) ≠ 7 ∧ SgT D h' s a base src (sTok src p) ∧ SgF h h' s (nxN (sTok src p)) (nxM (sTok src p)))
      (fun x h' => tkK (sTok src p) = 7 ∧ FtR h' x (sStr "42601") (nI (tkF (sTok src p) + 1)) ∧ SgF h h' s (8 + src.length) (200 + 8 * src.length))) (.inl none) h' := by
    intro t ht _ hk h' h1 h2
    exact endV fun _ _ => by rw [ht]; exact ⟨hk, h1, h2⟩
  have bad : ∀ (t : Tok), sTok src p = t → tkF t = i → tkK t = 7 → ∀ x h', FtR h' x (sStr "42601") (nI (i + 1)) → SgF h h' s (8 + src.length) (200 + 8 * src.length) → (pV D h (fun h' => tkK (sTok src p) ≠ 7 ∧ SgT D h' s a base src (sTok src p) ∧ SgF h h' s (nxN (sTok src p)) (nxM (sTok src p)))
      (fun x h' => tkK (sTok src p) = 7 ∧ FtR h' x (sStr "42601") (nI (tkF (sTok src p) + 1)) ∧ SgF h h' s (8 + src.length) (200 + 8 * src.length))) (.inr x) h' := by
    intro t ht hf hk x h' h1 h2
    exact fun _ _ => by rw [ht, hf]; exact ⟨hk, h1, h2⟩
  refine ⟨fun z => ?_, fun z => ?_⟩
  · have hn : ¬ sLk src i < 0 := fun w => absurd (Int32.lt_of_lt_of_le w z) Int32.lt_irrefl
    have hil : i < src.length := by
      rcases Nat.lt_or_ge i src.length with q | q
      · exact q
      · exact absurd (lk_neg.mpr q) hn
    refine JW.inv fun hI3 => useI0 k_letter ?_
    rintro v h4 _ _ ⟨rfl, rfl⟩
    by_cases hl : sLetter (sLk src i) = true
    · rw [if_pos hl]
      refine ⟨fun w => absurd w (by decide), fun _ => useV (k_word (d := d + 1) (fm := i) hs3 e87' (by omega) hsm) ?_ ?_⟩
      · rintro h5 hI5 _ ⟨w1, w2, w3, w4, w5, w6⟩
        have ht : sTok src p = (if sReserved.contains (sWord src i (sWordEnd src src.length i)) then 1 else if (sWord src i (sWordEnd src src.length i)).length ≤ 20 then 2 else 7, i, sWordEnd src src.length i, sWord src i (sWordEnd src src.length i), 0, []) := by
          unfold sTok; rw [hi]; simp only [hn, hl, if_false, if_true]
        have hk : tkK (if sReserved.contains (sWord src i (sWordEnd src src.length i)) then 1 else if (sWord src i (sWordEnd src src.length i)).length ≤ 20 then 2 else 7, i, sWordEnd src src.length i, sWord src i (sWordEnd src src.length i), (0 : Int64), ([] : Str)) = 1 ∨ tkK (if sReserved.contains (sWord src i (sWordEnd src src.length i)) then 1 else if (sWord src i (sWordEnd src src.length i)).length ≤ 20 then 2 else 7, i, sWordEnd src src.length i, sWord src i (sWordEnd src src.length i), (0 : Int64), ([] : Str)) = 2 := by
          unfold tkK
          by_cases q : sReserved.contains (sWord src i (sWordEnd src src.length i)) = true
          · left; simp only [q, if_true]
          · right; simp only [q, w1, if_true]; rfl
        have gg := g3.tr w6
        refine tok _ ht rfl (by omega) h5 ⟨w2, by rw [w5 87 (by decide)]; exact e87', ?_, w3, fun q => by omega, hc.sg hI gg hk3, fun q => by omega, by show i ≤ _; omega⟩ ((gg.mono (by unfold nxN; rw [if_pos hk]; decide) (by unfold nxM; rw [if_pos hk]; decide)).1)
        rw [w4]; unfold kcon
        rcases hk with q | q <;> rw [q] <;> rfl
      · rintro x h5 _ _ ⟨w1, w2, w3⟩
        have ht : sTok src p = (7, i, sWordEnd src src.length i, sWord src i (sWordEnd src src.length i), 0, []) := by
          unfold sTok; rw [hi]; simp only [hn, hl, if_false, if_true]
          have hr : ¬ sReserved.contains (sWord src i (sWordEnd src src.length i)) = true := fun q => by
            have key : ∀ w ∈ sReserved, w.length ≤ 20 := by decide +kernel
            have := key _ (List.contains_iff_mem.mp q)
            omega
          rw [if_neg hr, if_neg (by omega)]
        exact bad _ ht rfl rfl x h5 w2 (((g3.tr w3).mono (by omega) (by omega)).1)
    · rw [if_neg hl]
      refine ⟨fun _ => useI0 k_digit ?_, fun w => absurd rfl w⟩
      rintro v h5 _ _ ⟨rfl, rfl⟩
      by_cases hd : sDigit (sLk src i) = true
      · rw [if_pos hd]
        refine ⟨fun w => absurd w (by decide), fun _ => useV (k_sgNumber (d := d + 1) (fm := i) hs3 e87' (by omega)) ?_ ?_⟩
        · rintro h6 hI6 _ ⟨w1, w2, w3, w4, w5, w6, w7⟩
          have ht : sTok src p = (3, i, sNumEnd src src.length i, [], sNum src src.length i 0, []) := by
            unfold sTok; rw [hi]; simp only [hn, hl, hd, if_false, if_true, Bool.false_eq_true]
            rw [if_neg (Int64.not_lt.mpr w1)]
          have gg := g3.tr w3
          have e88 : StR h6 (jfr h6 88 s) [] := by
            rw [w6 88 (by decide)]
            have hl3 := st3.lt hI3
            refine st3.of (w3.2 _ hl3.1 fun e => ?_) (w3.2 _ hl3.2 fun e => ?_)
            · have := st3.2.1; rw [e, hs3.1] at this; omega
            · have := st3.2.2.2.2.1; rw [e, hs3.1] at this; omega
          exact tok _ ht rfl (by show (3 : Nat) ≠ 7; decide) h6 ⟨w2, by rw [w5 87 (by decide)]; exact e87', w7, e88, fun _ => w4, hc.sg hI gg hk3, fun q => absurd (show (3 : Nat) = 4 from q) (by decide), by show i ≤ _; omega⟩ ((gg.mono (Nat.zero_le _) (Nat.zero_le _)).1)
        · rintro x h6 _ _ ⟨w1, w2, w3⟩
          have ht : sTok src p = (7, i, sNumEnd src src.length i, [], sNum src src.length i 0, []) := by
            unfold sTok; rw [hi]; simp only [hn, hl, hd, if_false, if_true, Bool.false_eq_true]
            rw [if_pos w1]
          exact bad _ ht rfl rfl x h6 w2 (((g3.tr w3).mono (by omega) (by omega)).1)
      · rw [if_neg hd]
        refine ⟨fun _ => ⟨fun z39 => ⟨fun z36 => ?_, fun z36 => ?_⟩, fun z39 => ?_⟩, fun w => absurd rfl w⟩
        · have e39 : (sLk src i == 39) = false := by simpa using z39
          have e36 : (sLk src i == 36) = false := by simpa using z36
          refine useV (k_sign (d := d + 1) (fm := i) hs3 rfl hil e87' (by omega)) ?_ ?_
          · rintro h6 hI6 _ ⟨w1, w2, w3, w4, w5, w6⟩
            have ht : sTok src p = (6, i, i + (sgW src i).length, sgW src i, 0, []) := by
              unfold sTok; rw [hi]; simp only [hn, hl, hd, e39, e36, if_false, Bool.false_eq_true]
              unfold sgO at w1
              unfold sgW
              by_cases q : sTwo (sLk src i) (sLk src (i + 1)) = true
              · simp only [q, if_true, List.length_cons, List.length_nil]
              · have q' : sTwo (sLk src i) (sLk src (i + 1)) = false := by simpa using q
                rw [q', Bool.false_or] at w1
                simp only [q', w1, if_true, if_false, Bool.false_eq_true, List.length_cons, List.length_nil]
            have gg := g3.tr w6
            exact tok _ ht rfl (by show (6 : Nat) ≠ 7; decide) h6 ⟨w2, by rw [w5 87 (by decide)]; exact e87', w4, w3, fun q => absurd (show (6 : Nat) = 3 ∨ (6 : Nat) = 5 from q) (by decide), hc.sg hI gg hk3, fun q => absurd (show (6 : Nat) = 4 from q) (by decide), by show i ≤ _; omega⟩ ((gg.mono (Nat.zero_le _) (Nat.zero_le _)).1)
          · rintro x h6 _ _ ⟨w1, w2, w3⟩
            have ht : sTok src p = (7, i, i + 1, [sLk src i], 0, []) := by
              unfold sTok; rw [hi]; simp only [hn, hl, hd, e39, e36, if_false, Bool.false_eq_true]
              unfold sgO at w1
              rw [Bool.or_eq_false_iff] at w1
              simp only [w1.1, w1.2, if_false, Bool.false_eq_true]
            exact bad _ ht rfl rfl x h6 w2 (((g3.tr w3).mono (by omega) (by omega)).1)
        · have e39 : (sLk src i == 39) = false := by simpa using z39
          have e36 : (sLk src i == 36) = true := by simpa using z36
          have brk : ¬ (49 ≤ sLk src (i + 1) ∧ sLk src (i + 1) ≤ 56) → W_X18_next_105 D (d + 9) (pV D h (fun h' => tkK (sTok src p) ≠ 7 ∧ SgT D h' s a base src (sTok src p) ∧ SgF h h' s (nxN (sTok src p)) (nxM (sTok src p)))
              (fun x h' => tkK (sTok src p) = 7 ∧ FtR h' x (sStr "42601") (nI (tkF (sTok src p) + 1)) ∧ SgF h h' s (8 + src.length) (200 + 8 * src.length))) s h5 := by
            intro hb
            refine ⟨hs.2.1, useR0 (k_broken (d := d + 2) hs3 e87' (by omega)) ?_⟩
            rintro x h6 _ _ ⟨f1, f2⟩
            have ht : sTok src p = (7, i, i + 2, [], (sLk src (i + 1) - 48).toInt64, []) := by
              have hb' : (decide (49 ≤ sLk src (i + 1)) && decide (sLk src (i + 1) ≤ 56)) = false := by
                rw [Bool.and_eq_false_iff, decide_eq_false_iff_not, decide_eq_false_iff_not]
                exact Classical.not_and_iff_not_or_not.mp hb
              unfold sTok; rw [hi]; simp only [hn, hl, hd, e39, e36, hb', if_false, if_true, Bool.false_eq_true]
            exact ⟨f1.1, bad _ ht rfl rfl x h6 f1 (((g3.tr f2).mono (by omega) (by omega)).1)⟩
          refine useI0 (k_look (k := 1) hs3 rfl (by decide)) ?_
          rintro v h6 _ _ ⟨rfl, rfl⟩
          refine ⟨fun w => brk fun y => absurd (Int32.lt_of_lt_of_le w y.1) Int32.lt_irrefl, fun w => useI0 (k_look (k := 1) hs3 rfl (by decide)) ?_⟩
          rintro v h7 _ _ ⟨rfl, rfl⟩
          refine ⟨fun w2 => ?_, fun w2 => brk fun y => w2 y.2⟩
          rintro h8 rfl
          have hs8 : SgB (wfr h7 86 s (jcs D 354)) s a base src i := hs3.fr (by decide)
          refine useI0 (k_look (k := 1) hs8 rfl (by decide)) ?_
          rintro v h9 _ _ ⟨rfl, rfl⟩
          rintro h10 rfl h11 rfl
          have hi2 : i + 1 < src.length := by
            rcases Nat.lt_or_ge (i + 1) src.length with q | q
            · exact q
            · rw [lk_out q] at w; exact absurd (by decide) w
          have e85' : jfi (wfl (wfr h7 86 s (jcs D 354)) 89 s (Int32.toInt64 (sLk src (i + 1) - 48))) 85 s + 2 = nI (base + (i + 2)) := by
            rw [jfi_wfl, jfi_wfr, hs3.2.2.2.2.2.2.2.2.2.2.1, show (2 : Int32) = nI 2 from rfl, nI_add]; congr 1
          rw [e85']
          have ht : sTok src p = (5, i, i + 2, [], (sLk src (i + 1) - 48).toInt64, []) := by
            have hb' : (decide (49 ≤ sLk src (i + 1)) && decide (sLk src (i + 1) ≤ 56)) = true := by
              rw [Bool.and_eq_true, decide_eq_true_eq, decide_eq_true_eq]
              exact ⟨Int32.not_lt.mp w, w2⟩
            unfold sTok; rw [hi]; simp only [hn, hl, hd, e39, e36, hb', if_false, if_true, Bool.false_eq_true]
          have g8 : SgG h7 (wfi (wfl (wfr h7 86 s (jcs D 354)) 89 s (Int32.toInt64 (sLk src (i + 1) - 48))) 85 s (nI (base + (i + 2)))) s 0 0 := ((SgG.rf' (by decide) (by decide)).tr (SgG.fl _)).tr (SgG.fi _)
          have gg := g3.tr g8
          have hs11 : SgB (wfi (wfl (wfr h7 86 s (jcs D 354)) 89 s (Int32.toInt64 (sLk src (i + 1) - 48))) 85 s (nI (base + (i + 2)))) s a base src (i + 2) := (hs8.fl (F := 89) (v := Int32.toInt64 (sLk src (i + 1) - 48))).at (by omega)
          refine tok _ ht rfl (by show (5 : Nat) ≠ 7; decide) _ ⟨hs11, ?_, ?_, ?_, fun _ => ?_, hc.sg hI gg hk3, fun q => absurd (show (5 : Nat) = 4 from q) (by decide), by show i ≤ _; omega⟩ ((gg.mono (Nat.zero_le _) (Nat.zero_le _)).1)
          · simp only [jkd_wfi, jln_wfi, jfi_wfi, jfl_wfi, jfr_wfi, jai_wfi, jal_wfi, jar_wfi, jsz_wfi, jus_wfi, jkd_wfl, jln_wfl, jfi_wfl, jfl_wfl, jfr_wfl, jai_wfl, jal_wfl, jar_wfl, jsz_wfl, jus_wfl, jkd_wfr, jln_wfr, jfi_wfr, jfl_wfr, jfr_wfr, jai_wfr, jal_wfr, jar_wfr, jsz_wfr, jus_wfr, jkd_wai, jln_wai, jfi_wai, jfl_wai, jfr_wai, jai_wai, jal_wai, jar_wai, jsz_wai, jus_wai, jkd_wal, jln_wal, jfi_wal, jfl_wal, jfr_wal, jai_wal, jal_wal, jar_wal, jsz_wal, jus_wal, jkd_war, jln_war, jfi_war, jfl_war, jfr_war, jai_war, jal_war, jar_war, jsz_war, jus_war, jkd_nwo, jln_nwo, jfi_nwo, jfl_nwo, jfr_nwo, jai_nwo, jal_nwo, jar_nwo, jsz_nwo, jus_nwo, jkd_nwa, jln_nwa, jfi_nwa, jfl_nwa, jfr_nwa, jai_nwa, jal_nwa, jar_nwa, jsz_nwa, jus_nwa, jkd_cpa, jln_cpa, jfi_cpa, jfl_cpa, jfr_cpa, jai_cpa, jal_cpa, jar_cpa, jsz_cpa, jus_cpa, Nat.reduceEqDiff, false_and, if_false]; exact e87'
          · simp only [jkd_wfi, jln_wfi, jfi_wfi, jfl_wfi, jfr_wfi, jai_wfi, jal_wfi, jar_wfi, jsz_wfi, jus_wfi, jkd_wfl, jln_wfl, jfi_wfl, jfl_wfl, jfr_wfl, jai_wfl, jal_wfl, jar_wfl, jsz_wfl, jus_wfl, jkd_wfr, jln_wfr, jfi_wfr, jfl_wfr, jfr_wfr, jai_wfr, jal_wfr, jar_wfr, jsz_wfr, jus_wfr, jkd_wai, jln_wai, jfi_wai, jfl_wai, jfr_wai, jai_wai, jal_wai, jar_wai, jsz_wai, jus_wai, jkd_wal, jln_wal, jfi_wal, jfl_wal, jfr_wal, jai_wal, jal_wal, jar_wal, jsz_wal, jus_wal, jkd_war, jln_war, jfi_war, jfl_war, jfr_war, jai_war, jal_war, jar_war, jsz_war, jus_war, jkd_nwo, jln_nwo, jfi_nwo, jfl_nwo, jfr_nwo, jai_nwo, jal_nwo, jar_nwo, jsz_nwo, jus_nwo, jkd_nwa, jln_nwa, jfi_nwa, jfl_nwa, jfr_nwa, jai_nwa, jal_nwa, jar_nwa, jsz_nwa, jus_nwa, jkd_cpa, jln_cpa, jfi_cpa, jfl_cpa, jfr_cpa, jai_cpa, jal_cpa, jar_cpa, jsz_cpa, jus_cpa, and_self, if_true]; rfl
          · have hl3 := st3.lt hI3
            have e88 : jfr (wfi (wfl (wfr h7 86 s (jcs D 354)) 89 s (Int32.toInt64 (sLk src (i + 1) - 48))) 85 s (nI (base + (i + 2)))) 88 s = jfr h7 88 s := by simp only [jkd_wfi, jln_wfi, jfi_wfi, jfl_wfi, jfr_wfi, jai_wfi, jal_wfi, jar_wfi, jsz_wfi, jus_wfi, jkd_wfl, jln_wfl, jfi_wfl, jfl_wfl, jfr_wfl, jai_wfl, jal_wfl, jar_wfl, jsz_wfl, jus_wfl, jkd_wfr, jln_wfr, jfi_wfr, jfl_wfr, jfr_wfr, jai_wfr, jal_wfr, jar_wfr, jsz_wfr, jus_wfr, jkd_wai, jln_wai, jfi_wai, jfl_wai, jfr_wai, jai_wai, jal_wai, jar_wai, jsz_wai, jus_wai, jkd_wal, jln_wal, jfi_wal, jfl_wal, jfr_wal, jai_wal, jal_wal, jar_wal, jsz_wal, jus_wal, jkd_war, jln_war, jfi_war, jfl_war, jfr_war, jai_war, jal_war, jar_war, jsz_war, jus_war, jkd_nwo, jln_nwo, jfi_nwo, jfl_nwo, jfr_nwo, jai_nwo, jal_nwo, jar_nwo, jsz_nwo, jus_nwo, jkd_nwa, jln_nwa, jfi_nwa, jfl_nwa, jfr_nwa, jai_nwa, jal_nwa, jar_nwa, jsz_nwa, jus_nwa, jkd_cpa, jln_cpa, jfi_cpa, jfl_cpa, jfr_cpa, jai_cpa, jal_cpa, jar_cpa, jsz_cpa, jus_cpa, Nat.reduceEqDiff, false_and, if_false]
            rw [e88]
            refine st3.of (g8.2 _ hl3.1 fun e => ?_) (g8.2 _ hl3.2 fun e => ?_)
            · have := st3.2.1; rw [e, hs3.1] at this; omega
            · have := st3.2.2.2.2.1; rw [e, hs3.1] at this; omega
          · simp only [jkd_wfi, jln_wfi, jfi_wfi, jfl_wfi, jfr_wfi, jai_wfi, jal_wfi, jar_wfi, jsz_wfi, jus_wfi, jkd_wfl, jln_wfl, jfi_wfl, jfl_wfl, jfr_wfl, jai_wfl, jal_wfl, jar_wfl, jsz_wfl, jus_wfl, jkd_wfr, jln_wfr, jfi_wfr, jfl_wfr, jfr_wfr, jai_wfr, jal_wfr, jar_wfr, jsz_wfr, jus_wfr, jkd_wai, jln_wai, jfi_wai, jfl_wai, jfr_wai, jai_wai, jal_wai, jar_wai, jsz_wai, jus_wai, jkd_wal, jln_wal, jfi_wal, jfl_wal, jfr_wal, jai_wal, jal_wal, jar_wal, jsz_wal, jus_wal, jkd_war, jln_war, jfi_war, jfl_war, jfr_war, jai_war, jal_war, jar_war, jsz_war, jus_war, jkd_nwo, jln_nwo, jfi_nwo, jfl_nwo, jfr_nwo, jai_nwo, jal_nwo, jar_nwo, jsz_nwo, jus_nwo, jkd_nwa, jln_nwa, jfi_nwa, jfl_nwa, jfr_nwa, jai_nwa, jal_nwa, jar_nwa, jsz_nwa, jus_nwa, jkd_cpa, jln_cpa, jfi_cpa, jfl_cpa, jfr_cpa, jai_cpa, jal_cpa, jar_cpa, jsz_cpa, jus_cpa, and_self, if_true]; rfl
        · have e39 : (sLk src i == 39) = true := by simpa using z39
          have hc3 : CelW D h5 (jfr h5 90 s) := hc.sg hI g3 hk3
          refine useV (k_quoted (d := d) (fm := i) hs3 hil hc3 e87' (by omega)) ?_ ?_
          · rintro h6 hI6 _ ⟨j, tt, w1, w2, w3, w4, w5, w6, w7⟩
            have ht : sTok src p = (4, i, j, [], 0, tt) := by
              unfold sTok; rw [hi]; simp only [hn, hl, hd, e39, if_false, if_true, w1, Bool.false_eq_true]
            have e88 : StR h6 (jfr h6 88 s) [] := by
              rw [w6 88 (by decide)]
              have hl3 := st3.lt hI3
              have key : ∀ q, q ≤ jsz h5 → (jkd h5 q = 12 ∨ jkd h5 q = 51 ∨ jkd h5 q = 66 ∨ jkd h5 q = 219) → same h5 h6 q := fun q hq hk => w4.1 q hq (by
                rintro (y | y | y)
                · rw [y, hs3.1] at hk; omega
                · have := hc3.2.1
                  rw [← y] at this
                  rcases hk with e | e | e | e <;> (rw [e] at this; cases this)
                · rcases hc3.2.2.2.2 with u | u
                  · rw [u] at y
                    have h0 : jkd h5 0 = 0 := by
                      by_cases e : jkd h5 0 = 0
                      · exact e
                      · exact absurd (hI3.1 0 e).1 (by decide)
                    rw [y, h0] at hk; omega
                  · rw [← y] at u; omega)
              refine st3.of (key _ hl3.1 ?_) (key _ hl3.2 ?_)
              · have := st3.2.1; omega
              · have := st3.2.2.2.2.1; omega
            exact tok _ ht rfl (by show (4 : Nat) ≠ 7; decide) h6 ⟨w2, by rw [w5 87 (by decide)]; exact e87', w7, e88, fun q => absurd (show (4 : Nat) = 3 ∨ (4 : Nat) = 5 from q) (by decide), w3.1, fun _ => w3, by show i ≤ _; omega⟩ ((g3.1.tr w4).mono (by show (0 + 3 : Nat) ≤ (if ((4 : Nat) = 1 ∨ (4 : Nat) = 2) then 6 else if (4 : Nat) = 4 then 3 else 0); decide) (by show (0 + 120 : Nat) ≤ (if ((4 : Nat) = 1 ∨ (4 : Nat) = 2) then 160 else if (4 : Nat) = 4 then 120 else 0); decide))
          · rintro x h6 _ _ ⟨w1, w2, w3⟩
            have ht : sTok src p = (7, i, i, [], 0, []) := by
              unfold sTok; rw [hi]; simp only [hn, hl, hd, e39, if_false, if_true, w1, Bool.false_eq_true]
            exact bad _ ht rfl rfl x h6 w2 ((g3.1.tr w3).mono (by omega) (by omega))
  · have hneg : sLk src i < 0 := Int32.not_le.mp z
    rintro h4 rfl
    have ht : sTok src p = (0, i, i, [], 0, []) := by
      unfold sTok; rw [hi]; simp only [hneg, if_true]
    have g4 : SgG h3 (wfr h3 86 s (jcs D 350)) s 0 0 := SgG.rf' (by decide) (by decide)
    have gg := g3.tr g4
    have e88 : jfr (wfr h3 86 s (jcs D 350)) 88 s = jfr h3 88 s := by simp only [jkd_wfi, jln_wfi, jfi_wfi, jfl_wfi, jfr_wfi, jai_wfi, jal_wfi, jar_wfi, jsz_wfi, jus_wfi, jkd_wfl, jln_wfl, jfi_wfl, jfl_wfl, jfr_wfl, jai_wfl, jal_wfl, jar_wfl, jsz_wfl, jus_wfl, jkd_wfr, jln_wfr, jfi_wfr, jfl_wfr, jfr_wfr, jai_wfr, jal_wfr, jar_wfr, jsz_wfr, jus_wfr, jkd_wai, jln_wai, jfi_wai, jfl_wai, jfr_wai, jai_wai, jal_wai, jar_wai, jsz_wai, jus_wai, jkd_wal, jln_wal, jfi_wal, jfl_wal, jfr_wal, jai_wal, jal_wal, jar_wal, jsz_wal, jus_wal, jkd_war, jln_war, jfi_war, jfl_war, jfr_war, jai_war, jal_war, jar_war, jsz_war, jus_war, jkd_nwo, jln_nwo, jfi_nwo, jfl_nwo, jfr_nwo, jai_nwo, jal_nwo, jar_nwo, jsz_nwo, jus_nwo, jkd_nwa, jln_nwa, jfi_nwa, jfl_nwa, jfr_nwa, jai_nwa, jal_nwa, jar_nwa, jsz_nwa, jus_nwa, jkd_cpa, jln_cpa, jfi_cpa, jfl_cpa, jfr_cpa, jai_cpa, jal_cpa, jar_cpa, jsz_cpa, jus_cpa, Nat.reduceEqDiff, false_and, if_false]
    refine tok _ ht rfl (by show (0 : Nat) ≠ 7; decide) _ ⟨hs3.fr (by decide), e87', ?_, ?_, fun q => absurd (show (0 : Nat) = 3 ∨ (0 : Nat) = 5 from q) (by decide), hc.sg hI gg hk3, fun q => absurd (show (0 : Nat) = 4 from q) (by decide), by show i ≤ _; omega⟩ ((gg.mono (Nat.zero_le _) (Nat.zero_le _)).1)
    · simp only [jkd_wfi, jln_wfi, jfi_wfi, jfl_wfi, jfr_wfi, jai_wfi, jal_wfi, jar_wfi, jsz_wfi, jus_wfi, jkd_wfl, jln_wfl, jfi_wfl, jfl_wfl, jfr_wfl, jai_wfl, jal_wfl, jar_wfl, jsz_wfl, jus_wfl, jkd_wfr, jln_wfr, jfi_wfr, jfl_wfr, jfr_wfr, jai_wfr, jal_wfr, jar_wfr, jsz_wfr, jus_wfr, jkd_wai, jln_wai, jfi_wai, jfl_wai, jfr_wai, jai_wai, jal_wai, jar_wai, jsz_wai, jus_wai, jkd_wal, jln_wal, jfi_wal, jfl_wal, jfr_wal, jai_wal, jal_wal, jar_wal, jsz_wal, jus_wal, jkd_war, jln_war, jfi_war, jfl_war, jfr_war, jai_war, jal_war, jar_war, jsz_war, jus_war, jkd_nwo, jln_nwo, jfi_nwo, jfl_nwo, jfr_nwo, jai_nwo, jal_nwo, jar_nwo, jsz_nwo, jus_nwo, jkd_nwa, jln_nwa, jfi_nwa, jfl_nwa, jfr_nwa, jai_nwa, jal_nwa, jar_nwa, jsz_nwa, jus_nwa, jkd_cpa, jln_cpa, jfi_cpa, jfl_cpa, jfr_cpa, jai_cpa, jal_cpa, jar_cpa, jsz_cpa, jus_cpa, and_self, if_true]; rfl
    · rw [e88]
      refine st3.of (same_wfr fun e => ?_) (same_wfr fun e => ?_)
      · have := st3.2.1; rw [e, hs3.1] at this; omega
      · have := st3.2.2.2.2.1; rw [e, hs3.1] at this; omega
theorem k_next {D : JD} {d : Nat} {h : JH} {s a base p : Nat} {src : Str} (hs : SgB h s a base src p) (hc : CelW D h (jfr h 90 s)) (hsm : src.length < 30000) :
    cX18_next D (d + 10) s h (pV D h (fun h' => tkK (sTok src p) ≠ 7 ∧ SgT D h' s a base src (sTok src p) ∧ SgF h h' s 8 200)
      (fun x h' => tkK (sTok src p) = 7 ∧ FtR h' x (sStr "42601") (nI (tkF (sTok src p) + 1)) ∧ SgF h h' s (8 + src.length) (200 + 8 * src.length))) :=
  useV (k_nextT hs hc hsm) (fun h' _ _ ⟨a1, a2, a3⟩ => ⟨a1, a2, a3.mono (Nat.le_trans (nxN_le _) (by decide)) (Nat.le_trans (nxM_le _) (by decide))⟩) (fun x h' _ _ z => z)
