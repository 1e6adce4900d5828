/-! signs of the component: quoted texts -/
theorem CelF.sg {D : JD} {h h' : JH} {s c : Nat} (hI : JInv D h) (hf : CelF h h' c) (hc : CelW D h c) (hs : jkd h s = 15) (hl : jfr h 90 s = c) : SgF h h' s 1 40 := by
  obtain ⟨f1, f2, f3, f4, f5, f6, f7, f8⟩ := hf
  have hsz : s ≤ jsz h := hI.lt (by rw [hs]; decide)
  have ss : same h h' s := f1 s hsz (by
    rintro (z | z)
    · have := hc.2.1; rw [← z, hs] at this; cases this
    · rcases hc.2.2.2.2 with w | w
      · rw [w] at z; rw [z] at hs; have := hI.2.2.2.2.1; exact absurd hs (by
          have h0 : jkd h 0 = 0 := by
            by_cases e : jkd h 0 = 0
            · exact e
            · exact absurd (hI.1 0 e).1 (by decide)
          rw [h0]; decide)
      · rw [← z, hs] at w; exact absurd w.1 (by decide))
  refine ⟨f1.mono (Nat.le_refl _) fun q _ z => ?_, ss.fr 90, ?_, f3, f4, ?_, ?_, fun F q hF => f8 F q (by omega) (by omega)⟩
  · rw [hl]
    rcases z with z | z
    · exact Or.inr (Or.inl z)
    · exact Or.inr (Or.inr z)
  · rw [hl]; exact f2
  · unfold pc67 at f5; split at f5 <;> split at f5 <;> omega
  · unfold pc67 at f6; split at f6 <;> split at f6 <;> omega
/-- while a quoted text is read: the signs stand at p, the literal's characters begin with acc -/
def QtI (D : JD) (h0 h : JH) (s a base : Nat) (src : Str) (c r : Nat) (acc : Str) (p : Nat) : Prop :=
  SgB h s a base src p ∧ jfr h 90 s = c ∧ CelW D h c ∧ jfr h 67 c = r ∧ r ≠ 0 ∧ acc.length ≤ 40 ∧ (∀ i b, acc[i]? = some b → jai h r i = b ∧ jby b) ∧ SgF h0 h s 1 40 ∧ (∀ F, F ≠ 85 → jfi h F s = jfi h0 F s) ∧ (∀ F, jfl h F s = jfl h0 F s) ∧ (∀ F, F ≠ 86 → jfr h F s = jfr h0 F s) ∧ jfr h 86 s = jcs D 353
theorem QtI.at {D : JD} {h0 h : JH} {s a base c r p q : Nat} {src acc : Str} (hI : JInv D h) (hq : QtI D h0 h s a base src c r acc p) (h2 : q ≤ src.length) : QtI D h0 (wfi h 85 s (nI (base + q))) s a base src c r acc q := by
  obtain ⟨q1, q2, q3, q4, q5, q6, q7, q8, q9, q10, q11, q12⟩ := hq
  have hcs : c ≠ s := fun e => by have := q3.2.1; rw [e, q1.1] at this; cases this
  refine ⟨q1.at h2, q2, q3.of (same_wfi hcs) (fun h0 => same_wfi fun e => ?_), q4, q5, q6, q7, (q8.tr (SgF.fi _)).mono (by omega) (by omega), fun F hF => ?_, q10, q11, q12⟩
  · rcases q3.2.2.2.2 with w | w
    · exact h0 w
    · rw [e, q1.1] at w; exact absurd w.1 (by decide)
  · simp only [jkd_wfi, jln_wfi, jfi_wfi, jfl_wfi, jfr_wfi, jai_wfi, jal_wfi, jar_wfi, jsz_wfi, jus_wfi, jkd_wfl, jln_wfl, jfi_wfl, jfl_wfl, jfr_wfl, jai_wfl, jal_wfl, jar_wfl, jsz_wfl, jus_wfl, jkd_wfr, jln_wfr, jfi_wfr, jfl_wfr, jfr_wfr, jai_wfr, jal_wfr, jar_wfr, jsz_wfr, jus_wfr, jkd_wai, jln_wai, jfi_wai, jfl_wai, jfr_wai, jai_wai, jal_wai, jar_wai, jsz_wai, jus_wai, jkd_wal, jln_wal, jfi_wal, jfl_wal, jfr_wal, jai_wal, jal_wal, jar_wal, jsz_wal, jus_wal, jkd_war, jln_war, jfi_war, jfl_war, jfr_war, jai_war, jal_war, jar_war, jsz_war, jus_war, jkd_nwo, jln_nwo, jfi_nwo, jfl_nwo, jfr_nwo, jai_nwo, jal_nwo, jar_nwo, jsz_nwo, jus_nwo, jkd_nwa, jln_nwa, jfi_nwa, jfl_nwa, jfr_nwa, jai_nwa, jal_nwa, jar_nwa, jsz_nwa, jus_nwa, jkd_cpa, jln_cpa, jfi_cpa, jfl_cpa, jfr_cpa, jai_cpa, jal_cpa, jar_cpa, jsz_cpa, jus_cpa, hF, false_and, if_false]; exact q9 F hF
theorem k_quoted_l {D : JD} {d : Nat} {h0 : JH} {s a base c r fm : Nat} {src : Str} {Q : JO → JH → Prop} (hfm : fm ≤ 100000) (hfr : jfi h0 87 s = nI (base + fm)) :
    ∀ (f p : Nat) (acc : Str) (h : JH), QtI D h0 h s a base src c r acc p → src.length < f + p →
    (∀ j t h', sQuoted src f p acc = some (j, t) → SgB h' s a base src j → Cel D h' c (vTxt t) → jfr h' 90 s = c → SgF h0 h' s 2 80 → (∀ F, F ≠ 85 → jfi h' F s = jfi h0 F s) → (∀ F, F ≠ 86 → jfr h' F s = jfr h0 F s) → jfr h' 86 s = jcs D 353 → Q (.inl none) h') →
    (∀ x h', sQuoted src f p acc = none → FtR h' x (sStr "42601") (nI (fm + 1)) → SgF h0 h' s 2 48 → Q (.inr x) h') → L_X18_quoted_27 D (d + 8) Q f s (nI acc.length) r h := by
  intro f
  induction f with
  | zero => intro p acc h hq hf _ _; exact absurd hq.1.2.2.2.2.2.2.2.2.2.2.2 (by omega)
  | succ f ih =>
    intro p acc h hq hf hQ hE
    have hq' := hq
    obtain ⟨q1, q2, q3, q4, q5, q6, q7, q8, q9, q10, q11, q12⟩ := hq
    have brk : sQuoted src (f + 1) p acc = none → ∀ h1 p1, QtI D h0 h1 s a base src c r acc p1 → s ≠ 0 ∧ cX18_broken D (d + 8) s h1 (pR D h1 9 (fun v h2 => v ≠ 0 ∧ Q (.inr v) h2) (jth Q)) := by
      intro hn h1 p1 hq1
      refine ⟨q1.2.1, useR0 (k_broken (d := d + 1) hq1.1 (by rw [hq1.2.2.2.2.2.2.2.2.1 87 (by decide)]; exact hfr) hfm) ?_⟩
      rintro v h2 _ _ ⟨f1, f2⟩
      exact ⟨f1.1, hE v h2 hn f1 ((hq1.2.2.2.2.2.2.2.1.tr f2.1).mono (by omega) (by omega))⟩
    refine ⟨q1.2.1, useI0 (k_look (k := 0) q1 rfl (by decide)) ?_⟩
    rintro v h1 hI1 _ ⟨rfl, rfl⟩
    simp only [Nat.add_zero]
    refine ⟨fun z => ?_, fun z => ⟨fun z2 => ?_, fun z2 => ?_⟩⟩
    · exact brk (by unfold sQuoted; rw [if_pos (by simp [z])]) h1 p hq'
    · have hp : p < src.length := by
        rcases Nat.lt_or_ge p src.length with q | q
        · exact q
        · rw [lk_out q] at z; exact absurd (by decide) z
      have hc : ¬ (decide (sLk src p < 32) || decide (126 < sLk src p)) = true := by
        simp only [Bool.or_eq_true, decide_eq_true_eq]
        rintro (w | w)
        · exact z w
        · exact absurd (Int32.lt_of_lt_of_le w z2) Int32.lt_irrefl
      have add : ∀ (p1 : Nat) (h2 : JH), QtI D h0 h2 s a base src c r acc p1 → src.length < f + p1 → sQuoted src (f + 1) p acc = (if acc.length == 40 then none else sQuoted src f p1 (acc ++ [sLk src p])) →
          W_X18_quoted_89 D (d + 8) Q (L_X18_quoted_27 D (d + 8) Q f) s (nI acc.length) r (sLk src p) h2 := by
        intro p1 h2 hq2 hf2 heq
        refine ⟨fun y => ?_, fun y => ?_⟩
        · have hlt : acc.length < 40 := by
            rcases Nat.lt_or_ge acc.length 40 with q | q
            · exact q
            · exact absurd (by rw [show acc.length = 40 by omega]; rfl) y
          obtain ⟨g1, g2, g3, g4, g5, g6, g7, g8, g9, g10, g11, g12⟩ := hq2
          have hr40 : jkd h2 r = 144 ∧ jln h2 r = 40 ∧ ∀ i, i < 40 → jby (jai h2 r i) := by
            rcases g3.2.2.2.2 with w | w
            · rw [g4] at w; exact absurd w g5
            · rw [g4] at w; exact w
          refine ⟨g5, by rw [hr40.2.1]; exact jin_nI hlt (by decide), ?_⟩
          rintro h3 rfl
          rw [nI_1, ixn_nI (by omega)]
          have hcb : (Int32.toInt8 ((Int32.toInt8 (sLk src p)).toInt32)).toInt32 = sLk src p ∧ jby (sLk src p) := by
            have h0' : ¬ sLk src p < 0 := fun w => absurd (lk_neg.mp w) (by omega)
            obtain ⟨j, hj, e⟩ := nI_of h0'
            have hj' : j ≤ 126 := by rw [e] at z2; exact (nI_leI (b := 126) hj (by decide)).mp z2
            have key : ∀ j, j < 127 → (Int32.toInt8 ((Int32.toInt8 (nI j)).toInt32)).toInt32 = nI j ∧ (nI j).toInt8.toInt32 = nI j := by decide +kernel
            rw [e]; exact key j (by omega)
          rw [hcb.1]
          rw [show acc.length + 1 = (acc ++ [sLk src p]).length by simp]
          have heq' : sQuoted src (f + 1) p acc = sQuoted src f p1 (acc ++ [sLk src p]) := by rw [heq, if_neg (by simp; omega)]
          have hrs : r ≠ s := fun e => by rw [e, g1.1] at hr40; exact absurd hr40.1 (by decide)
          have hra : r ≠ a := fun e => by rw [e, g1.2.2.2.2.1] at hr40; exact absurd hr40.1 (by decide)
          have hrc : c ≠ r := fun e => by have := g3.2.1; rw [e, hr40.1] at this; cases this
          refine ih p1 (acc ++ [sLk src p]) _ ⟨g1.of (same_wai (Ne.symm hrs)) (same_wai (Ne.symm hra)), g2, ?_, g4, g5, by simp; omega, ?_, ?_, g9, g10, g11, g12⟩ hf2 ?_ ?_
          · obtain ⟨c1, c2, c3, c4, c5⟩ := g3
            refine ⟨c1, c2, c3, c4, Or.inr ?_⟩
            simp only [jkd_wfi, jln_wfi, jfi_wfi, jfl_wfi, jfr_wfi, jai_wfi, jal_wfi, jar_wfi, jsz_wfi, jus_wfi, jkd_wfl, jln_wfl, jfi_wfl, jfl_wfl, jfr_wfl, jai_wfl, jal_wfl, jar_wfl, jsz_wfl, jus_wfl, jkd_wfr, jln_wfr, jfi_wfr, jfl_wfr, jfr_wfr, jai_wfr, jal_wfr, jar_wfr, jsz_wfr, jus_wfr, jkd_wai, jln_wai, jfi_wai, jfl_wai, jfr_wai, jai_wai, jal_wai, jar_wai, jsz_wai, jus_wai, jkd_wal, jln_wal, jfi_wal, jfl_wal, jfr_wal, jai_wal, jal_wal, jar_wal, jsz_wal, jus_wal, jkd_war, jln_war, jfi_war, jfl_war, jfr_war, jai_war, jal_war, jar_war, jsz_war, jus_war, jkd_nwo, jln_nwo, jfi_nwo, jfl_nwo, jfr_nwo, jai_nwo, jal_nwo, jar_nwo, jsz_nwo, jus_nwo, jkd_nwa, jln_nwa, jfi_nwa, jfl_nwa, jfr_nwa, jai_nwa, jal_nwa, jar_nwa, jsz_nwa, jus_nwa, jkd_cpa, jln_cpa, jfi_cpa, jfl_cpa, jfr_cpa, jai_cpa, jal_cpa, jar_cpa, jsz_cpa, jus_cpa, g4, true_and]
            refine ⟨hr40.1, hr40.2.1, fun i hi => ?_⟩
            split
            · exact hcb.2
            · exact hr40.2.2 i hi
          · intro i b hb
            have := hcb.2
            simp only [jkd_wfi, jln_wfi, jfi_wfi, jfl_wfi, jfr_wfi, jai_wfi, jal_wfi, jar_wfi, jsz_wfi, jus_wfi, jkd_wfl, jln_wfl, jfi_wfl, jfl_wfl, jfr_wfl, jai_wfl, jal_wfl, jar_wfl, jsz_wfl, jus_wfl, jkd_wfr, jln_wfr, jfi_wfr, jfl_wfr, jfr_wfr, jai_wfr, jal_wfr, jar_wfr, jsz_wfr, jus_wfr, jkd_wai, jln_wai, jfi_wai, jfl_wai, jfr_wai, jai_wai, jal_wai, jar_wai, jsz_wai, jus_wai, jkd_wal, jln_wal, jfi_wal, jfl_wal, jfr_wal, jai_wal, jal_wal, jar_wal, jsz_wal, jus_wal, jkd_war, jln_war, jfi_war, jfl_war, jfr_war, jai_war, jal_war, jar_war, jsz_war, jus_war, jkd_nwo, jln_nwo, jfi_nwo, jfl_nwo, jfr_nwo, jai_nwo, jal_nwo, jar_nwo, jsz_nwo, jus_nwo, jkd_nwa, jln_nwa, jfi_nwa, jfl_nwa, jfr_nwa, jai_nwa, jal_nwa, jar_nwa, jsz_nwa, jus_nwa, jkd_cpa, jln_cpa, jfi_cpa, jfl_cpa, jfr_cpa, jai_cpa, jal_cpa, jar_cpa, jsz_cpa, jus_cpa, true_and]
            grind
          · have : SgF h2 (wai h2 r acc.length (sLk src p)) s 0 0 := by
              refine ⟨fr_wai (Or.inl (Or.inr (Or.inr ?_))), rfl, Or.inl rfl, fun z => z, Nat.le_refl _, Nat.le_refl _, Nat.le_refl _, fun _ _ _ => rfl⟩
              rw [g2, g4]
            exact (g8.tr this).mono (by omega) (by omega)
          · intro j t h' e; exact hQ j t h' (heq'.trans e)
          · intro x h' e; exact hE x h' (heq'.trans e)
        · have h40 : acc.length = 40 := (nI_eq (b := 40) (by omega) (by decide)).mp y
          exact brk (by rw [heq, if_pos (by simp [h40])]) h2 p1 hq2
      rintro h2 rfl
      rw [q1.2.2.2.2.2.2.2.2.2.2.1, nI_1, show base + p + 1 = base + (p + 1) by omega]
      have hq2 := hq'.at hI1 (q := p + 1) (by omega)
      refine ⟨fun y => add (p + 1) _ hq2 (by omega) ?_, fun y => useI0 (k_look (k := 0) hq2.1 rfl (by decide)) ?_⟩
      · rw [sQuoted, if_neg hc, if_neg (by simpa using y)]
      · rintro v h3 hI3 _ ⟨rfl, rfl⟩
        simp only [Nat.add_zero]
        refine ⟨fun y2 => ?_, fun y2 => ?_⟩
        · rintro h4 rfl
          have hp1 : p + 1 < src.length := by
            rcases Nat.lt_or_ge (p + 1) src.length with q | q
            · exact q
            · rw [lk_out q] at y2; exact absurd y2 (by decide)
          rw [hq2.1.2.2.2.2.2.2.2.2.2.2.1, nI_1, show base + (p + 1) + 1 = base + (p + 2) by omega]
          refine add (p + 2) _ (hq2.at hI3 (by omega)) (by omega) ?_
          rw [sQuoted, if_neg hc, if_pos (by simpa using y), if_pos (by simpa using y2), y]
        · have e90 : jfr (wfi h1 85 s (nI (base + (p + 1)))) 90 s = c := hq2.2.1
          rw [e90]
          have hrk : jln (wfi h1 85 s (nI (base + (p + 1)))) r = 40 ∧ jkd (wfi h1 85 s (nI (base + (p + 1)))) r = 144 := by
            rcases hq2.2.2.1.2.2.2.2 with w | w
            · rw [hq2.2.2.2.1] at w; exact absurd w q5
            · rw [hq2.2.2.2.1] at w; exact ⟨w.2.1, w.1⟩
          have hcw := hq2.2.2.1
          refine ⟨q3.1, useR (k_cText (d := d) (s := acc) (off := 0) (n := acc.length) hcw rfl rfl rfl (by omega) (fun _ => ⟨q5, ?_, by rw [hrk.1]; omega, by rw [hrk.1]; decide, fun e => by have := hcw.2.1; rw [← e, hrk.2] at this; cases this⟩) (fun i b hb => by rw [Nat.zero_add]; exact hq2.2.2.2.2.2.2.1 i b hb) (fun _ => rfl)) ?_ ?_⟩
          · exact hI3.lt (by rw [hrk.2]; decide)
          · rintro v h4 hI4 _ ⟨rfl, -, c4, f4⟩
            have sg4 := f4.sg hI3 hcw hq2.1.1 hq2.2.1
            have ss4 : same (wfi h1 85 s (nI (base + (p + 1)))) h4 s := f4.1 s (hI3.lt (by rw [hq2.1.1]; decide)) (by
              rw [hq2.2.2.2.1]
              rintro (w | w)
              · have := hcw.2.1; rw [← w, hq2.1.1] at this; cases this
              · rw [← w, hq2.1.1] at hrk; exact absurd hrk.2 (by decide))
            have sa4 : same (wfi h1 85 s (nI (base + (p + 1)))) h4 a := f4.1 a (hI3.lt (by rw [hq2.1.2.2.2.2.1]; decide)) (by
              rw [hq2.2.2.2.1]
              rintro (w | w)
              · have := hcw.2.1; rw [← w, hq2.1.2.2.2.2.1] at this; cases this
              · rw [← w, hq2.1.2.2.2.2.1] at hrk; exact absurd hrk.2 (by decide))
            refine hQ (p + 1) acc h4 ?_ (hq2.1.of ss4 sa4) c4 (by rw [ss4.fr]; exact e90) ((hq2.2.2.2.2.2.2.2.1.tr sg4).mono (by omega) (by omega)) (fun F hF => by rw [ss4.fi]; exact hq2.2.2.2.2.2.2.2.2.1 F hF) (fun F hF => by rw [ss4.fr]; exact hq2.2.2.2.2.2.2.2.2.2.2.1 F hF) (by rw [ss4.fr]; exact hq2.2.2.2.2.2.2.2.2.2.2.2)
            rw [sQuoted, if_neg hc, if_pos (by simpa using y), if_neg (by simpa using y2)]
          · rintro x h4 _ _ ⟨w, -⟩
            unfold xTxt at w
            rw [if_pos (by omega)] at w
            cases w
    · exact brk (by unfold sQuoted; rw [if_pos (by simp; exact Or.inr (Int32.not_le.mp z2))]) h1 p hq'
