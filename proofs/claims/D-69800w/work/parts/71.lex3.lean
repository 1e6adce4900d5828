/-! signs of the component: words -/
theorem log2_le (n : Nat) : Nat.log2 n ≤ n := by
  by_cases h : n = 0
  · subst h; decide
  · exact Nat.le_of_lt ((Nat.log2_lt h).mpr Nat.lt_two_pow_self)
theorem sWord_len (src : Str) (i j : Nat) : (sWord src i j).length = j - i := by simp [sWord]
theorem sWord_snoc {src : Str} {i j : Nat} (h : i ≤ j) : sWord src i (j + 1) = sWord src i j ++ [sSmall (sLk src j)] := by
  unfold sWord
  rw [show j + 1 - i = (j - i) + 1 by omega, List.range_succ, List.map_append]
  simp [show i + (j - i) = j by omega]
theorem SbR.lt {D : JD} {h : JH} {b : Nat} {s : List Int32} (hI : JInv D h) (hb : SbR h b s) : b ≤ jsz h ∧ jfr h 71 b ≤ jsz h :=
  ⟨hI.lt (by rw [hb.1]; decide), hI.refl⟩
theorem SbR.of {h h' : JH} {b : Nat} {s : List Int32} (hb : SbR h b s) (h1 : same h h' b) (h2 : same h h' (jfr h 71 b)) : SbR h' b s := by
  obtain ⟨b0, b1, b2, b3, b4, b5, b6, b7, b8, b9, b10⟩ := hb
  unfold SbR
  rw [h1.kd, h1.fi, h1.fi, h1.fr, h2.kd, h2.ln]
  exact ⟨b0, b1, b2, b3, b4, b5, b6, b7, b8, fun i c hc => by rw [h2.ai]; exact b9 i c hc, fun i hi => by rw [h2.ai]; exact b10 i hi⟩
/-- letters and digits are below 128, small or not -/
theorem wordy_n {c : Int32} (h : (sLetter c || sDigit c) = true) : ∃ k, k < 128 ∧ 0 < k ∧ c = nI k := by
  have key : 0 < c ∧ c ≤ 122 := by
    simp only [sLetter, sDigit, Bool.or_eq_true, Bool.and_eq_true, decide_eq_true_eq, beq_iff_eq] at h
    rcases h with (h | h | h) | h
    · exact ⟨Int32.lt_of_lt_of_le (by decide) h.1, h.2⟩
    · exact ⟨Int32.lt_of_lt_of_le (by decide) h.1, Int32.le_trans h.2 (by decide)⟩
    · rw [h]; exact ⟨by decide, by decide⟩
    · exact ⟨Int32.lt_of_lt_of_le (by decide) h.1, Int32.le_trans h.2 (by decide)⟩
  have h0 : ¬ c < 0 := fun z => absurd (Int32.lt_trans z key.1) Int32.lt_irrefl
  obtain ⟨j, hj, rfl⟩ := nI_of h0
  have h1 := (nI_leI (b := 122) hj (by decide)).mp key.2
  have h2 := (nI_ltI (a := 0) (by decide) hj).mp key.1
  exact ⟨j, by omega, h2, rfl⟩
theorem small_n : ∀ k, k < 128 → (sSmall (nI k)).toInt8.toInt32 = sSmall (nI k) ∧ ¬ 255 < sSmall (nI k) ∧ (Int32.toUInt32 (sSmall (nI k)) % 65536).toInt32 = sSmall (nI k) := by decide +kernel
/-- while a word is read: the signs stand at p, the builder holds its characters from p0 on -/
def WdI (h0 h : JH) (s a base : Nat) (src : Str) (b p0 p : Nat) : Prop :=
  SgB h s a base src p ∧ SbR h b (sWord src p0 p) ∧ p0 ≤ p ∧ fr (jsz h0) (fun q => q = s) h0 h ∧ jsz h0 < b ∧ jsz h0 < jfr h 71 b ∧ (∀ F, F ≠ 85 → jfi h F s = jfi h0 F s) ∧ (∀ F, jfl h F s = jfl h0 F s) ∧ (∀ F q, F ≠ 71 → jfr h F q = jfr h0 F q) ∧ jsz h0 ≤ jsz h ∧ jsz h + 4 ≤ jsz h0 + 2 + Nat.log2 (jln h (jfr h 71 b) + 2) ∧ jus h + 32 ≤ jus h0 + 20 + 2 * jln h (jfr h 71 b) ∧ (jln h (jfr h 71 b) ≤ 16 ∨ jln h (jfr h 71 b) ≤ 2 * (p - p0))
theorem k_word_s {D : JD} {d : Nat} {h0 h : JH} {s a base b p0 p : Nat} {src : Str} {Q : JO → JH → Prop} {K8 : Nat → Nat → JH → Prop} (hs0 : s ≤ jsz h0) (ha0 : a ≤ jsz h0) (hsm : src.length < 30000) (hw : WdI h0 h s a base src b p0 p) (hl : (sLetter (sLk src p) || sDigit (sLk src p)) = true)
    (hK : ∀ h', WdI h0 h' s a base src b p0 (p + 1) → K8 s b h') : W_X18_word_57 D (d + 7) Q K8 s b b (sSmall (sLk src p)) h := by
  obtain ⟨w1, w2, w3, w4, w5, w6, w7, w8, w9, w10, w11, w12, w13⟩ := hw
  have hp : p < src.length := by
    rcases Nat.lt_or_ge p src.length with q | q
    · exact q
    · rw [lk_out q] at hl; exact absurd hl (by decide)
  obtain ⟨k, hk1, hk2, hk3⟩ := wordy_n hl
  obtain ⟨m1, m2, m3⟩ := small_n k hk1
  rw [← hk3] at m1 m2 m3
  have hsl : s ≠ b := by omega
  have hlen := sWord_len src p0 p
  refine ⟨w2.2.1, ?_⟩
  rw [m3]
  refine useR0 (k_sbAppend (d := d + 1) w2 (by omega) m2) ?_
  rintro v h1 hI1 hle1 ⟨rfl, s1, c1⟩
  rw [m1, ← sWord_snoc w3] at s1
  have fs : same h h1 s := s1.2.1 s (by omega) (fun z => by rcases z with z | z; exact hsl z; omega)
  have fa : same h h1 a := s1.2.1 a (by omega) (fun z => by rcases z with z | z <;> omega)
  refine ⟨w1.2.1, ?_⟩
  rintro h2 rfl
  have hs1 := w1.of fs fa
  rw [hs1.2.2.2.2.2.2.2.2.2.2.1, nI_1, show base + p + 1 = base + (p + 1) by omega]
  have harr : jsz h0 < jfr h1 71 v := by
    rcases s1.2.2.1 with e | e
    · rw [e]; exact w6
    · omega
  have hs2 := hs1.at (q := p + 1) (by omega)
  have hb2 : SbR (wfi h1 85 s (nI (base + (p + 1)))) v (sWord src p0 (p + 1)) := s1.1.of (same_wfi (by omega)) (same_wfi (by omega))
  have z1 := s1.2.2.2.1
  have z2 := s1.2.2.2.2.1
  have z3 := s1.2.2.2.2.2.1
  refine hK _ ⟨hs2, hb2, by omega, ?_, w5, harr, ?_, ?_, ?_, ?_, ?_, ?_, ?_⟩
  · refine (w4.tr (s1.2.1.mono w10 fun q hq z => ?_)).tr (fr_wfi (Or.inl rfl))
    rcases z with z | z <;> omega
  · intro F hF
    simp only [jkd_wfi, jln_wfi, jfi_wfi, jfl_wfi, jfr_wfi, jai_wfi, jal_wfi, jar_wfi, jsz_wfi, jus_wfi, jkd_wfl, jln_wfl, jfi_wfl, jfl_wfl, jfr_wfl, jai_wfl, jal_wfl, jar_wfl, jsz_wfl, jus_wfl, jkd_wfr, jln_wfr, jfi_wfr, jfl_wfr, jfr_wfr, jai_wfr, jal_wfr, jar_wfr, jsz_wfr, jus_wfr, jkd_wai, jln_wai, jfi_wai, jfl_wai, jfr_wai, jai_wai, jal_wai, jar_wai, jsz_wai, jus_wai, jkd_wal, jln_wal, jfi_wal, jfl_wal, jfr_wal, jai_wal, jal_wal, jar_wal, jsz_wal, jus_wal, jkd_war, jln_war, jfi_war, jfl_war, jfr_war, jai_war, jal_war, jar_war, jsz_war, jus_war, jkd_nwo, jln_nwo, jfi_nwo, jfl_nwo, jfr_nwo, jai_nwo, jal_nwo, jar_nwo, jsz_nwo, jus_nwo, jkd_nwa, jln_nwa, jfi_nwa, jfl_nwa, jfr_nwa, jai_nwa, jal_nwa, jar_nwa, jsz_nwa, jus_nwa, jkd_cpa, jln_cpa, jfi_cpa, jfl_cpa, jfr_cpa, jai_cpa, jal_cpa, jar_cpa, jsz_cpa, jus_cpa, hF, false_and, if_false]
    rw [fs.fi]; exact w7 F hF
  · intro F; simp only [jkd_wfi, jln_wfi, jfi_wfi, jfl_wfi, jfr_wfi, jai_wfi, jal_wfi, jar_wfi, jsz_wfi, jus_wfi, jkd_wfl, jln_wfl, jfi_wfl, jfl_wfl, jfr_wfl, jai_wfl, jal_wfl, jar_wfl, jsz_wfl, jus_wfl, jkd_wfr, jln_wfr, jfi_wfr, jfl_wfr, jfr_wfr, jai_wfr, jal_wfr, jar_wfr, jsz_wfr, jus_wfr, jkd_wai, jln_wai, jfi_wai, jfl_wai, jfr_wai, jai_wai, jal_wai, jar_wai, jsz_wai, jus_wai, jkd_wal, jln_wal, jfi_wal, jfl_wal, jfr_wal, jai_wal, jal_wal, jar_wal, jsz_wal, jus_wal, jkd_war, jln_war, jfi_war, jfl_war, jfr_war, jai_war, jal_war, jar_war, jsz_war, jus_war, jkd_nwo, jln_nwo, jfi_nwo, jfl_nwo, jfr_nwo, jai_nwo, jal_nwo, jar_nwo, jsz_nwo, jus_nwo, jkd_nwa, jln_nwa, jfi_nwa, jfl_nwa, jfr_nwa, jai_nwa, jal_nwa, jar_nwa, jsz_nwa, jus_nwa, jkd_cpa, jln_cpa, jfi_cpa, jfl_cpa, jfr_cpa, jai_cpa, jal_cpa, jar_cpa, jsz_cpa, jus_cpa]; rw [fs.fl]; exact w8 F
  · intro F q hF; simp only [jkd_wfi, jln_wfi, jfi_wfi, jfl_wfi, jfr_wfi, jai_wfi, jal_wfi, jar_wfi, jsz_wfi, jus_wfi, jkd_wfl, jln_wfl, jfi_wfl, jfl_wfl, jfr_wfl, jai_wfl, jal_wfl, jar_wfl, jsz_wfl, jus_wfl, jkd_wfr, jln_wfr, jfi_wfr, jfl_wfr, jfr_wfr, jai_wfr, jal_wfr, jar_wfr, jsz_wfr, jus_wfr, jkd_wai, jln_wai, jfi_wai, jfl_wai, jfr_wai, jai_wai, jal_wai, jar_wai, jsz_wai, jus_wai, jkd_wal, jln_wal, jfi_wal, jfl_wal, jfr_wal, jai_wal, jal_wal, jar_wal, jsz_wal, jus_wal, jkd_war, jln_war, jfi_war, jfl_war, jfr_war, jai_war, jal_war, jar_war, jsz_war, jus_war, jkd_nwo, jln_nwo, jfi_nwo, jfl_nwo, jfr_nwo, jai_nwo, jal_nwo, jar_nwo, jsz_nwo, jus_nwo, jkd_nwa, jln_nwa, jfi_nwa, jfl_nwa, jfr_nwa, jai_nwa, jal_nwa, jar_nwa, jsz_nwa, jus_nwa, jkd_cpa, jln_cpa, jfi_cpa, jfl_cpa, jfr_cpa, jai_cpa, jal_cpa, jar_cpa, jsz_cpa, jus_cpa]; rw [s1.2.2.2.2.2.2.1 F q hF]; exact w9 F q hF
  · simp only [jkd_wfi, jln_wfi, jfi_wfi, jfl_wfi, jfr_wfi, jai_wfi, jal_wfi, jar_wfi, jsz_wfi, jus_wfi, jkd_wfl, jln_wfl, jfi_wfl, jfl_wfl, jfr_wfl, jai_wfl, jal_wfl, jar_wfl, jsz_wfl, jus_wfl, jkd_wfr, jln_wfr, jfi_wfr, jfl_wfr, jfr_wfr, jai_wfr, jal_wfr, jar_wfr, jsz_wfr, jus_wfr, jkd_wai, jln_wai, jfi_wai, jfl_wai, jfr_wai, jai_wai, jal_wai, jar_wai, jsz_wai, jus_wai, jkd_wal, jln_wal, jfi_wal, jfl_wal, jfr_wal, jai_wal, jal_wal, jar_wal, jsz_wal, jus_wal, jkd_war, jln_war, jfi_war, jfl_war, jfr_war, jai_war, jal_war, jar_war, jsz_war, jus_war, jkd_nwo, jln_nwo, jfi_nwo, jfl_nwo, jfr_nwo, jai_nwo, jal_nwo, jar_nwo, jsz_nwo, jus_nwo, jkd_nwa, jln_nwa, jfi_nwa, jfl_nwa, jfr_nwa, jai_nwa, jal_nwa, jar_nwa, jsz_nwa, jus_nwa, jkd_cpa, jln_cpa, jfi_cpa, jfl_cpa, jfr_cpa, jai_cpa, jal_cpa, jar_cpa, jsz_cpa, jus_cpa]; omega
  · simp only [jkd_wfi, jln_wfi, jfi_wfi, jfl_wfi, jfr_wfi, jai_wfi, jal_wfi, jar_wfi, jsz_wfi, jus_wfi, jkd_wfl, jln_wfl, jfi_wfl, jfl_wfl, jfr_wfl, jai_wfl, jal_wfl, jar_wfl, jsz_wfl, jus_wfl, jkd_wfr, jln_wfr, jfi_wfr, jfl_wfr, jfr_wfr, jai_wfr, jal_wfr, jar_wfr, jsz_wfr, jus_wfr, jkd_wai, jln_wai, jfi_wai, jfl_wai, jfr_wai, jai_wai, jal_wai, jar_wai, jsz_wai, jus_wai, jkd_wal, jln_wal, jfi_wal, jfl_wal, jfr_wal, jai_wal, jal_wal, jar_wal, jsz_wal, jus_wal, jkd_war, jln_war, jfi_war, jfl_war, jfr_war, jai_war, jal_war, jar_war, jsz_war, jus_war, jkd_nwo, jln_nwo, jfi_nwo, jfl_nwo, jfr_nwo, jai_nwo, jal_nwo, jar_nwo, jsz_nwo, jus_nwo, jkd_nwa, jln_nwa, jfi_nwa, jfl_nwa, jfr_nwa, jai_nwa, jal_nwa, jar_nwa, jsz_nwa, jus_nwa, jkd_cpa, jln_cpa, jfi_cpa, jfl_cpa, jfr_cpa, jai_cpa, jal_cpa, jar_cpa, jsz_cpa, jus_cpa]; omega
  · simp only [jkd_wfi, jln_wfi, jfi_wfi, jfl_wfi, jfr_wfi, jai_wfi, jal_wfi, jar_wfi, jsz_wfi, jus_wfi, jkd_wfl, jln_wfl, jfi_wfl, jfl_wfl, jfr_wfl, jai_wfl, jal_wfl, jar_wfl, jsz_wfl, jus_wfl, jkd_wfr, jln_wfr, jfi_wfr, jfl_wfr, jfr_wfr, jai_wfr, jal_wfr, jar_wfr, jsz_wfr, jus_wfr, jkd_wai, jln_wai, jfi_wai, jfl_wai, jfr_wai, jai_wai, jal_wai, jar_wai, jsz_wai, jus_wai, jkd_wal, jln_wal, jfi_wal, jfl_wal, jfr_wal, jai_wal, jal_wal, jar_wal, jsz_wal, jus_wal, jkd_war, jln_war, jfi_war, jfl_war, jfr_war, jai_war, jal_war, jar_war, jsz_war, jus_war, jkd_nwo, jln_nwo, jfi_nwo, jfl_nwo, jfr_nwo, jai_nwo, jal_nwo, jar_nwo, jsz_nwo, jus_nwo, jkd_nwa, jln_nwa, jfi_nwa, jfl_nwa, jfr_nwa, jai_nwa, jal_nwa, jar_nwa, jsz_nwa, jus_nwa, jkd_cpa, jln_cpa, jfi_cpa, jfl_cpa, jfr_cpa, jai_cpa, jal_cpa, jar_cpa, jsz_cpa, jus_cpa]; omega
  · simp only [jkd_wfi, jln_wfi, jfi_wfi, jfl_wfi, jfr_wfi, jai_wfi, jal_wfi, jar_wfi, jsz_wfi, jus_wfi, jkd_wfl, jln_wfl, jfi_wfl, jfl_wfl, jfr_wfl, jai_wfl, jal_wfl, jar_wfl, jsz_wfl, jus_wfl, jkd_wfr, jln_wfr, jfi_wfr, jfl_wfr, jfr_wfr, jai_wfr, jal_wfr, jar_wfr, jsz_wfr, jus_wfr, jkd_wai, jln_wai, jfi_wai, jfl_wai, jfr_wai, jai_wai, jal_wai, jar_wai, jsz_wai, jus_wai, jkd_wal, jln_wal, jfi_wal, jfl_wal, jfr_wal, jai_wal, jal_wal, jar_wal, jsz_wal, jus_wal, jkd_war, jln_war, jfi_war, jfl_war, jfr_war, jai_war, jal_war, jar_war, jsz_war, jus_war, jkd_nwo, jln_nwo, jfi_nwo, jfl_nwo, jfr_nwo, jai_nwo, jal_nwo, jar_nwo, jsz_nwo, jus_nwo, jkd_nwa, jln_nwa, jfi_nwa, jfl_nwa, jfr_nwa, jai_nwa, jal_nwa, jar_nwa, jsz_nwa, jus_nwa, jkd_cpa, jln_cpa, jfi_cpa, jfl_cpa, jfr_cpa, jai_cpa, jal_cpa, jar_cpa, jsz_cpa, jus_cpa]
    rw [hlen] at c1
    omega
theorem k_word_l {D : JD} {d : Nat} {h0 : JH} {s a base b p0 E : Nat} {src : Str} {Q : JO → JH → Prop} (hs0 : s ≤ jsz h0) (ha0 : a ≤ jsz h0) (hsm : src.length < 30000)
    (hend : ∀ h, WdI h0 h s a base src b p0 E →
      ∀ h1, h1 = wfr h 86 s (jcs D 351) → b ≠ 0 ∧ cJ13_toString D (d + 7) b h1 (pR D h1 64 (fun v h2 => ∀ h3 : JH, h3 = wfr h2 88 s v → (jfr h3 88 s ≠ 0 ∧ cJ5_length D (d + 7) (jfr h3 88 s) h3 (pI D h3 (fun v2 h4 => (v2 ≤ (20 : Int32) → Q (.inl none) h4) ∧ (¬ v2 ≤ (20 : Int32) → cX18_broken D (d + 7) s h4 (pR D h4 9 (fun v3 h5 => v3 ≠ 0 ∧ Q (.inr v3) h5) (jth Q)))) (jth Q)))) (jth Q))) :
    ∀ (f p : Nat) (h : JH), WdI h0 h s a base src b p0 p → src.length ≤ f + p → sWordEnd src f p = E → L_X18_word_8 D (d + 7) Q (f + 1) s b h := by
  intro f
  induction f with
  | zero =>
    intro p h hw hf hE
    have hs := hw.1
    have hlk : sLk src (p + 0) = -1 := lk_out (by omega)
    refine ⟨hs.2.1, useI0 (k_look (k := 0) hs rfl (by decide)) ?_⟩
    rintro v h1 _ _ ⟨rfl, rfl⟩
    refine useI0 k_letter ?_
    rintro v h2 _ _ ⟨rfl, rfl⟩
    rw [hlk]
    refine ⟨fun z => absurd (by decide) z, fun _ => useI0 (k_look (k := 0) hs rfl (by decide)) ?_⟩
    rintro v h3 _ _ ⟨rfl, rfl⟩
    refine useI0 k_digit ?_
    rintro v h4 _ _ ⟨rfl, rfl⟩
    rw [hlk]
    refine ⟨fun _ => ?_, fun z => absurd (by decide) z⟩
    have : E = p := hE.symm
    subst this
    exact hend h4 hw
  | succ f ih =>
    intro p h hw hf hE
    have hs := hw.1
    unfold sWordEnd at hE
    have go : (sLetter (sLk src p) || sDigit (sLk src p)) = true → W_X18_word_30 D (d + 7) Q (L_X18_word_8 D (d + 7) Q (f + 1)) s b h := by
      intro hl
      rw [if_pos hl] at hE
      refine ⟨hs.2.1, useI0 (k_look (k := 0) hs rfl (by decide)) ?_⟩
      rintro v h1 _ _ ⟨rfl, rfl⟩
      simp only [Nat.add_zero]
      have st := k_word_s (D := D) (d := d) (Q := Q) (K8 := L_X18_word_8 D (d + 7) Q (f + 1)) hs0 ha0 hsm hw hl (fun h' hw' => ih (p + 1) h' hw' (by omega) hE)
      refine ⟨fun z => ?_, fun z => ⟨fun z2 => ?_, fun z2 => ?_⟩⟩
      · have e : sSmall (sLk src p) = sLk src p := by
          unfold sSmall
          rw [if_neg]
          simp only [Bool.and_eq_true, decide_eq_true_eq]
          exact fun w => absurd (Int32.lt_of_lt_of_le z w.1) Int32.lt_irrefl
        rw [e] at st; exact st
      · have e : sSmall (sLk src p) = sLk src p := by
          unfold sSmall
          rw [if_neg]
          simp only [Bool.and_eq_true, decide_eq_true_eq]
          exact fun w => absurd (Int32.lt_of_lt_of_le z2 w.2) Int32.lt_irrefl
        rw [e] at st; exact st
      · have e : sSmall (sLk src p) = sLk src p + 32 := by
          unfold sSmall
          rw [if_pos]
          simp only [Bool.and_eq_true, decide_eq_true_eq]
          exact ⟨Int32.not_lt.mp z, Int32.not_lt.mp z2⟩
        rw [e] at st; exact st
    refine ⟨hs.2.1, useI0 (k_look (k := 0) hs rfl (by decide)) ?_⟩
    rintro v h1 _ _ ⟨rfl, rfl⟩
    refine useI0 k_letter ?_
    rintro v h2 _ _ ⟨rfl, rfl⟩
    simp only [Nat.add_zero]
    by_cases hl : sLetter (sLk src p) = true
    · rw [if_pos hl]
      exact ⟨fun _ => go (by rw [hl]; rfl), fun z => absurd z (by decide)⟩
    · rw [if_neg hl]
      refine ⟨fun z => absurd rfl z, fun _ => useI0 (k_look (k := 0) hs rfl (by decide)) ?_⟩
      rintro v h3 _ _ ⟨rfl, rfl⟩
      refine useI0 k_digit ?_
      rintro v h4 _ _ ⟨rfl, rfl⟩
      simp only [Nat.add_zero]
      by_cases hd : sDigit (sLk src p) = true
      · rw [if_pos hd]
        exact ⟨fun z => absurd z (by decide), fun _ => go (by rw [hd]; simp)⟩
      · rw [if_neg hd]
        refine ⟨fun _ => ?_, fun z => absurd rfl z⟩
        rw [if_neg (by simp [hl, hd])] at hE
        have : E = p := hE.symm
        subst this
        exact hend h4 hw
/-- a word: its characters, in small letters; more than 20 are refused -/
theorem k_word {D : JD} {d : Nat} {h : JH} {s a base p fm : Nat} {src : Str} (hs : SgB h s a base src p) (hfr : jfi h 87 s = nI (base + fm)) (hfm : fm ≤ 100000) (hsm : src.length < 30000) :
    cX18_word D (d + 8) s h (pV D h (fun h' => (sWord src p (sWordEnd src src.length p)).length ≤ 20 ∧ SgB h' s a base src (sWordEnd src src.length p) ∧ StR h' (jfr h' 88 s) (sWord src p (sWordEnd src src.length p)) ∧ jfr h' 86 s = jcs D 351 ∧ (∀ F, F ≠ 85 → jfi h' F s = jfi h F s) ∧ SgG h h' s 6 160)
      (fun x h' => 20 < (sWord src p (sWordEnd src src.length p)).length ∧ FtR h' x (sStr "42601") (nI (fm + 1)) ∧ SgG h h' s (7 + src.length) (108 + 8 * src.length))) := by
  refine JW.inv fun hI => t_X18_word ?_
  have hsl := hs.lt hI
  rintro r1 h1 rfl rfl
  have ss : same h (nwo h 11 4) s := same_nwo hsl.1
  have sa : same h (nwo h 11 4) a := same_nwo hsl.2
  refine useV0 (k_sbInit (d := d + 5) (by simp only [jkd_wfi, jln_wfi, jfi_wfi, jfl_wfi, jfr_wfi, jai_wfi, jal_wfi, jar_wfi, jsz_wfi, jus_wfi, jkd_wfl, jln_wfl, jfi_wfl, jfl_wfl, jfr_wfl, jai_wfl, jal_wfl, jar_wfl, jsz_wfl, jus_wfl, jkd_wfr, jln_wfr, jfi_wfr, jfl_wfr, jfr_wfr, jai_wfr, jal_wfr, jar_wfr, jsz_wfr, jus_wfr, jkd_wai, jln_wai, jfi_wai, jfl_wai, jfr_wai, jai_wai, jal_wai, jar_wai, jsz_wai, jus_wai, jkd_wal, jln_wal, jfi_wal, jfl_wal, jfr_wal, jai_wal, jal_wal, jar_wal, jsz_wal, jus_wal, jkd_war, jln_war, jfi_war, jfl_war, jfr_war, jai_war, jal_war, jar_war, jsz_war, jus_war, jkd_nwo, jln_nwo, jfi_nwo, jfl_nwo, jfr_nwo, jai_nwo, jal_nwo, jar_nwo, jsz_nwo, jus_nwo, jkd_nwa, jln_nwa, jfi_nwa, jfl_nwa, jfr_nwa, jai_nwa, jal_nwa, jar_nwa, jsz_nwa, jus_nwa, jkd_cpa, jln_cpa, jfi_cpa, jfl_cpa, jfr_cpa, jai_cpa, jal_cpa, jar_cpa, jsz_cpa, jus_cpa, if_true]) (Nat.succ_ne_zero _) (by simp only [jkd_wfi, jln_wfi, jfi_wfi, jfl_wfi, jfr_wfi, jai_wfi, jal_wfi, jar_wfi, jsz_wfi, jus_wfi, jkd_wfl, jln_wfl, jfi_wfl, jfl_wfl, jfr_wfl, jai_wfl, jal_wfl, jar_wfl, jsz_wfl, jus_wfl, jkd_wfr, jln_wfr, jfi_wfr, jfl_wfr, jfr_wfr, jai_wfr, jal_wfr, jar_wfr, jsz_wfr, jus_wfr, jkd_wai, jln_wai, jfi_wai, jfl_wai, jfr_wai, jai_wai, jal_wai, jar_wai, jsz_wai, jus_wai, jkd_wal, jln_wal, jfi_wal, jfl_wal, jfr_wal, jai_wal, jal_wal, jar_wal, jsz_wal, jus_wal, jkd_war, jln_war, jfi_war, jfl_war, jfr_war, jai_war, jal_war, jar_war, jsz_war, jus_war, jkd_nwo, jln_nwo, jfi_nwo, jfl_nwo, jfr_nwo, jai_nwo, jal_nwo, jar_nwo, jsz_nwo, jus_nwo, jkd_nwa, jln_nwa, jfi_nwa, jfl_nwa, jfr_nwa, jai_nwa, jal_nwa, jar_nwa, jsz_nwa, jus_nwa, jkd_cpa, jln_cpa, jfi_cpa, jfl_cpa, jfr_cpa, jai_cpa, jal_cpa, jar_cpa, jsz_cpa, jus_cpa]; exact hI.zi (by omega) 74)) ?_
  rintro h2 hI2 _ ⟨i1, i2, i3, i4, i5, i6, i7, _⟩
  have sz1 : jsz (nwo h 11 4) = jsz h + 1 := rfl
  have us1 : jus (nwo h 11 4) = jus h + 4 := rfl
  have ss2 : same h h2 s := ss.tr (i2 s (by omega) (by omega))
  have sa2 : same h h2 a := sa.tr (i2 a (by omega) (by omega))
  have hw0 : WdI h h2 s a base src (jsz h + 1) p p := by
    refine ⟨hs.of ss2 sa2, ?_, Nat.le_refl _, ?_, by omega, by omega, fun F _ => ss2.fi F, fun F => ss2.fl F, fun F q hF => (i7 F q hF).trans rfl, by omega, ?_, ?_, Or.inl (by omega)⟩
    · have : sWord src p p = [] := by simp [sWord]
      rw [this]; exact i1
    · exact ((fr_nwo (Nat.le_refl _)).tr (i2.mono (by omega) fun q hq z => by omega)).mono (Nat.le_refl _) fun q hq z => z
    · rw [i6, i4, sz1]
      have : Nat.log2 18 = 4 := by decide
      show jsz h + 1 + 1 + 4 ≤ jsz h + 2 + Nat.log2 18
      omega
    · rw [i6, i5, us1]; omega
  refine ⟨src.length + 1, k_word_l hsl.1 hsl.2 hsm ?_ src.length p h2 hw0 (by omega) rfl⟩
  rintro h3 ⟨w1, w2, w3, w4, w5, w6, w7, w8, w9, w10, w11, w12, w13⟩ h4 rfl
  have hE : sWordEnd src src.length p ≤ src.length := w1.2.2.2.2.2.2.2.2.2.2.2
  generalize sWordEnd src src.length p = E at w1 w2 w3 w13 hE ⊢
  have hlen := sWord_len src p E
  have hb4 : SbR (wfr h3 86 s (jcs D 351)) (jsz h + 1) (sWord src p E) := w2.of (same_wfr (by omega)) (same_wfr (by omega))
  refine ⟨Nat.succ_ne_zero _, useR0 (k_sbString hb4 (by omega)) ?_⟩
  rintro v h5 hI5 _ ⟨t1, t2, t3, t4, t5, t6, t7, _⟩
  have sz4 : jsz (wfr h3 86 s (jcs D 351)) = jsz h3 := rfl
  have us4 : jus (wfr h3 86 s (jcs D 351)) = jus h3 := rfl
  rw [sz4] at t1 t4 t5
  rw [us4] at t6
  rintro h6 rfl
  have e88 : jfr (wfr h5 88 s v) 88 s = v := by simp only [jkd_wfi, jln_wfi, jfi_wfi, jfl_wfi, jfr_wfi, jai_wfi, jal_wfi, jar_wfi, jsz_wfi, jus_wfi, jkd_wfl, jln_wfl, jfi_wfl, jfl_wfl, jfr_wfl, jai_wfl, jal_wfl, jar_wfl, jsz_wfl, jus_wfl, jkd_wfr, jln_wfr, jfi_wfr, jfl_wfr, jfr_wfr, jai_wfr, jal_wfr, jar_wfr, jsz_wfr, jus_wfr, jkd_wai, jln_wai, jfi_wai, jfl_wai, jfr_wai, jai_wai, jal_wai, jar_wai, jsz_wai, jus_wai, jkd_wal, jln_wal, jfi_wal, jfl_wal, jfr_wal, jai_wal, jal_wal, jar_wal, jsz_wal, jus_wal, jkd_war, jln_war, jfi_war, jfl_war, jfr_war, jai_war, jal_war, jar_war, jsz_war, jus_war, jkd_nwo, jln_nwo, jfi_nwo, jfl_nwo, jfr_nwo, jai_nwo, jal_nwo, jar_nwo, jsz_nwo, jus_nwo, jkd_nwa, jln_nwa, jfi_nwa, jfl_nwa, jfr_nwa, jai_nwa, jal_nwa, jar_nwa, jsz_nwa, jus_nwa, jkd_cpa, jln_cpa, jfi_cpa, jfl_cpa, jfr_cpa, jai_cpa, jal_cpa, jar_cpa, jsz_cpa, jus_cpa, and_self, if_true]
  have hvs : v ≠ s := by omega
  have hva : jfr h5 75 v ≠ s := fun e => by
    have := t2.2.2.2.2.1
    rw [e, (t4 s (by omega) (fun z => z)).kd] at this
    have k15 : jkd (wfr h3 86 s (jcs D 351)) s = 15 := w1.1
    rw [k15] at this
    omega
  have st6 : StR (wfr h5 88 s v) v (sWord src p E) := t2.of (same_wfr hvs) (same_wfr hva)
  have ss5 : same (wfr h3 86 s (jcs D 351)) h5 s := t4 s (by omega) (fun z => z)
  have sa5 : same (wfr h3 86 s (jcs D 351)) h5 a := t4 a (by omega) (fun z => z)
  have sg6 : SgB (wfr h5 88 s v) s a base src E := ((w1.fr (F := 86) (v := jcs D 351) (by decide)).of ss5 sa5).fr (by decide)
  have fi6 : ∀ F, F ≠ 85 → jfi (wfr h5 88 s v) F s = jfi h F s := fun F hF => by
    rw [jfi_wfr, ss5.fi, jfi_wfr]; exact w7 F hF
  have lg : Nat.log2 (jln h3 (jfr h3 71 (jsz h + 1)) + 2) ≤ 4 + src.length := by
    generalize jln h3 (jfr h3 71 (jsz h + 1)) = cap at w13 ⊢
    rcases w13 with q | q
    · have : Nat.log2 (cap + 2) < 5 := (Nat.log2_lt (by omega)).mpr (by omega)
      omega
    · have h1 : E - p + 1 < 2 ^ (E - p + 1) := Nat.lt_two_pow_self
      have : Nat.log2 (cap + 2) < E - p + 2 := (Nat.log2_lt (by omega)).mpr (by rw [Nat.pow_succ]; omega)
      omega
  have cap2 : 2 * jln h3 (jfr h3 71 (jsz h + 1)) ≤ 32 + 4 * src.length := by
    rcases w13 with q | q <;> omega
  have rf6 : ∀ F q, F ≠ 71 → F ≠ 75 → F ≠ 86 → F ≠ 88 → jfr (wfr h5 88 s v) F q = jfr h F q := fun F q f1 f2 f3 f4 => by
    rw [jfr_wfr, if_neg fun z => f4 z.1, t7 F q f2, jfr_wfr, if_neg fun z => f3 z.1]; exact w9 F q f1
  have sf6' : ∀ N M, jsz h5 ≤ jsz h + N → jus h5 ≤ jus h + M → SgG h (wfr h5 88 s v) s N M := fun N M hN hM => by
    refine ⟨⟨?_, rf6 90 s (by decide) (by decide) (by decide) (by decide), Or.inl (rf6 67 _ (by decide) (by decide) (by decide) (by decide)), fun z x y => ?_, ?_, ?_, ?_, fun F q hF => rf6 F q (by omega) (by omega) (by omega) (by omega)⟩, ((w4.tr (fr_wfr (Or.inl rfl))).tr (t4.mono (by omega) fun _ _ z => z.elim)).tr (fr_wfr (Or.inl rfl))⟩
    · refine (((w4.mono (Nat.le_refl _) fun q _ z => Or.inl z).tr (fr_wfr (Or.inl (Or.inl rfl)))).tr (t4.mono (by omega) fun _ _ z => z.elim)).tr (fr_wfr (Or.inl (Or.inl rfl)))
    · rw [rf6 67 x (by decide) (by decide) (by decide) (by decide), rf6 67 y (by decide) (by decide) (by decide) (by decide)]; exact z x y
    · rw [jsz_wfr]; omega
    · rw [jsz_wfr]; omega
    · rw [jus_wfr]; omega
  have sf6 : SgG h (wfr h5 88 s v) s (6 + src.length) (100 + 8 * src.length) := sf6' _ _ (by omega) (by omega)
  have sf7 : (sWord src p E).length ≤ 20 → SgG h (wfr h5 88 s v) s 6 160 := fun hz => by
    have lg7 : Nat.log2 (jln h3 (jfr h3 71 (jsz h + 1)) + 2) ≤ 5 := by
      generalize jln h3 (jfr h3 71 (jsz h + 1)) = cap at w13 ⊢
      have : Nat.log2 (cap + 2) < 6 := (Nat.log2_lt (by omega)).mpr (by rcases w13 with q | q <;> omega)
      omega
    have cap7 : 2 * jln h3 (jfr h3 71 (jsz h + 1)) ≤ 80 := by
      rcases w13 with q | q <;> omega
    exact sf6' _ _ (by omega) (by omega)
  refine ⟨by rw [e88]; exact t2.1, ?_⟩
  rw [e88]
  refine useI0 (k_length st6) ?_
  rintro x h7 _ _ ⟨rfl, rfl⟩
  have z20 := fun z => (nI_leI (a := (sWord src p E).length) (b := 20) (by omega) (by decide)).mp z
  refine ⟨fun z => endV fun _ _ => ⟨?_, sg6, ?_, ?_, fi6, sf7 (z20 z)⟩, fun z => ?_⟩
  · exact z20 z
  · rw [e88]; exact st6
  · rw [jfr_wfr, if_neg (by simp), t7 86 s (by decide), jfr_wfr, if_pos ⟨rfl, rfl⟩]
  · have hgt : 20 < (sWord src p E).length := by
      rcases Nat.lt_or_ge 20 (sWord src p E).length with q | q
      · exact q
      · exact absurd (nI_le (b := 20) q (by decide)) z
    refine useR0 (k_broken (d := d) sg6 (by rw [fi6 87 (by decide)]; exact hfr) hfm) ?_
    rintro x h8 _ _ ⟨f1, f2⟩
    exact ⟨f1.1, fun _ _ => ⟨hgt, f1, (sf6.tr f2).mono (by omega) (by omega)⟩⟩
