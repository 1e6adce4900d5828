/-! StringBuilder -/
def SbR (h : JH) (b : Nat) (s : List Int32) : Prop :=
  jkd h b = 11 ∧ b ≠ 0 ∧ jfi h 72 b = 0 ∧ jfi h 74 b = nI s.length ∧ jfr h 71 b ≠ 0 ∧ jkd h (jfr h 71 b) = 220 ∧ s.length ≤ jln h (jfr h 71 b) ∧ 16 ≤ jln h (jfr h 71 b) ∧ jln h (jfr h 71 b) ≤ 100000 ∧ (∀ i c, s[i]? = some c → jai h (jfr h 71 b) i = c ∧ jby c) ∧ ∀ i, i < jln h (jfr h 71 b) → jby (jai h (jfr h 71 b) i)
/-- from h to h' the builder b alone has changed -/
def SbS (h h' : JH) (b : Nat) (s : List Int32) : Prop :=
  SbR h' b s ∧ fr (jsz h) (fun q => q = b ∨ q = jfr h 71 b) h h' ∧ (jfr h' 71 b = jfr h 71 b ∨ jsz h < jfr h' 71 b) ∧ jsz h ≤ jsz h' ∧ jsz h' + Nat.log2 (jln h (jfr h 71 b) + 2) ≤ jsz h + Nat.log2 (jln h' (jfr h' 71 b) + 2) ∧ jus h' + 2 * jln h (jfr h 71 b) ≤ jus h + 2 * jln h' (jfr h' 71 b) ∧ (∀ F q, F ≠ 71 → jfr h' F q = jfr h F q) ∧ ∀ q i, jar h' q i = jar h q i
theorem SbS.rf {h : JH} {b : Nat} {s : List Int32} (hb : SbR h b s) : SbS h h b s := ⟨hb, fr.rf _ _ _, Or.inl rfl, Nat.le_refl _, Nat.le_refl _, Nat.le_refl _, fun _ _ _ => rfl, fun _ _ => rfl⟩
theorem SbS.tr {a b c : JH} {o : Nat} {s t : List Int32} (h1 : SbS a b o s) (h2 : SbS b c o t) : SbS a c o t := by
  obtain ⟨a1, a2, a3, a4, a5, a6, a7, a8⟩ := h1
  obtain ⟨b1, b2, b3, b4, b5, b6, b7, b8⟩ := h2
  refine ⟨b1, a2.tr (b2.mono a4 fun q hq hz => ?_), ?_, by omega, by omega, by omega, fun F q hF => (b7 F q hF).trans (a7 F q hF), fun q i => (b8 q i).trans (a8 q i)⟩
  · rcases hz with z | z
    · exact Or.inl z
    · rcases a3 with e | e
      · exact Or.inr (z.trans e)
      · omega
  · rcases b3 with e | e
    · rw [e]; exact a3
    · exact Or.inr (by omega)
theorem k_sbInit {D : JD} {d : Nat} {h : JH} {b : Nat} (hk : jkd h b = 11) (h0 : b ≠ 0) (h1 : jfi h 74 b = 0) :
    cJ13_init D (d + 2) b h (pV D h (fun h' => SbR h' b [] ∧ fr (jsz h) (fun q => q = b) h h' ∧ jsz h < jfr h' 71 b ∧ jsz h' = jsz h + 1 ∧ jus h' = jus h + 16 ∧ jln h' (jfr h' 71 b) = 16 ∧ (∀ F q, F ≠ 71 → jfr h' F q = jfr h F q) ∧ ∀ q i, jar h' q i = jar h q i) no) := by
  refine JW.inv fun hI => ?_
  have hb : b ≤ jsz h := hI.lt (by rw [hk]; decide)
  have hne : b ≠ jsz h + 1 := by omega
  have key : cJ12_init D (d + 1) b 16 h (pV D h (fun h' => SbR h' b [] ∧ fr (jsz h) (fun q => q = b) h h' ∧ jsz h < jfr h' 71 b ∧ jsz h' = jsz h + 1 ∧ jus h' = jus h + 16 ∧ jln h' (jfr h' 71 b) = 16 ∧ (∀ F q, F ≠ 71 → jfr h' F q = jfr h F q) ∧ ∀ q i, jar h' q i = jar h q i) no) := by
    refine t_J12_init ⟨h0, ⟨by decide, by decide⟩, ?_⟩
    rintro r1 h2 rfl rfl h3 rfl h4 rfl
    refine endV fun _ _ => ⟨?_, ((fr_nwa (M := fun q => q = b) (Nat.le_refl _)).tr (fr_wfr (Or.inl rfl))).tr (fr_wfi (Or.inl rfl)), ?_, rfl, rfl, ?_, fun F q hF => by simp only [jkd_wfi, jln_wfi, jfi_wfi, jfl_wfi, jfr_wfi, jai_wfi, jal_wfi, jar_wfi, jsz_wfi, jus_wfi, jkd_wfl, jln_wfl, jfi_wfl, jfl_wfl, jfr_wfl, jai_wfl, jal_wfl, jar_wfl, jsz_wfl, jus_wfl, jkd_wfr, jln_wfr, jfi_wfr, jfl_wfr, jfr_wfr, jai_wfr, jal_wfr, jar_wfr, jsz_wfr, jus_wfr, jkd_wai, jln_wai, jfi_wai, jfl_wai, jfr_wai, jai_wai, jal_wai, jar_wai, jsz_wai, jus_wai, jkd_wal, jln_wal, jfi_wal, jfl_wal, jfr_wal, jai_wal, jal_wal, jar_wal, jsz_wal, jus_wal, jkd_war, jln_war, jfi_war, jfl_war, jfr_war, jai_war, jal_war, jar_war, jsz_war, jus_war, jkd_nwo, jln_nwo, jfi_nwo, jfl_nwo, jfr_nwo, jai_nwo, jal_nwo, jar_nwo, jsz_nwo, jus_nwo, jkd_nwa, jln_nwa, jfi_nwa, jfl_nwa, jfr_nwa, jai_nwa, jal_nwa, jar_nwa, jsz_nwa, jus_nwa, jkd_cpa, jln_cpa, jfi_cpa, jfl_cpa, jfr_cpa, jai_cpa, jal_cpa, jar_cpa, jsz_cpa, jus_cpa, hF, false_and, if_false], fun _ _ => rfl⟩
    · simp only [SbR, jkd_wfi, jln_wfi, jfi_wfi, jfl_wfi, jfr_wfi, jai_wfi, jal_wfi, jar_wfi, jsz_wfi, jus_wfi, jkd_wfl, jln_wfl, jfi_wfl, jfl_wfl, jfr_wfl, jai_wfl, jal_wfl, jar_wfl, jsz_wfl, jus_wfl, jkd_wfr, jln_wfr, jfi_wfr, jfl_wfr, jfr_wfr, jai_wfr, jal_wfr, jar_wfr, jsz_wfr, jus_wfr, jkd_wai, jln_wai, jfi_wai, jfl_wai, jfr_wai, jai_wai, jal_wai, jar_wai, jsz_wai, jus_wai, jkd_wal, jln_wal, jfi_wal, jfl_wal, jfr_wal, jai_wal, jal_wal, jar_wal, jsz_wal, jus_wal, jkd_war, jln_war, jfi_war, jfl_war, jfr_war, jai_war, jal_war, jar_war, jsz_war, jus_war, jkd_nwo, jln_nwo, jfi_nwo, jfl_nwo, jfr_nwo, jai_nwo, jal_nwo, jar_nwo, jsz_nwo, jus_nwo, jkd_nwa, jln_nwa, jfi_nwa, jfl_nwa, jfr_nwa, jai_nwa, jal_nwa, jar_nwa, jsz_nwa, jus_nwa, jkd_cpa, jln_cpa, jfi_cpa, jfl_cpa, jfr_cpa, jai_cpa, jal_cpa, jar_cpa, jsz_cpa, jus_cpa, and_self, if_true, hne, if_false, Nat.reduceEqDiff, false_and, true_and]
      refine ⟨hk, h0, h1, Nat.succ_ne_zero _, by decide, by decide, by decide, fun i c hc => by simp at hc, fun i hi => ?_⟩
      rw [hI.zai (by omega)]; rfl
    · simp only [jkd_wfi, jln_wfi, jfi_wfi, jfl_wfi, jfr_wfi, jai_wfi, jal_wfi, jar_wfi, jsz_wfi, jus_wfi, jkd_wfl, jln_wfl, jfi_wfl, jfl_wfl, jfr_wfl, jai_wfl, jal_wfl, jar_wfl, jsz_wfl, jus_wfl, jkd_wfr, jln_wfr, jfi_wfr, jfl_wfr, jfr_wfr, jai_wfr, jal_wfr, jar_wfr, jsz_wfr, jus_wfr, jkd_wai, jln_wai, jfi_wai, jfl_wai, jfr_wai, jai_wai, jal_wai, jar_wai, jsz_wai, jus_wai, jkd_wal, jln_wal, jfi_wal, jfl_wal, jfr_wal, jai_wal, jal_wal, jar_wal, jsz_wal, jus_wal, jkd_war, jln_war, jfi_war, jfl_war, jfr_war, jai_war, jal_war, jar_war, jsz_war, jus_war, jkd_nwo, jln_nwo, jfi_nwo, jfl_nwo, jfr_nwo, jai_nwo, jal_nwo, jar_nwo, jsz_nwo, jus_nwo, jkd_nwa, jln_nwa, jfi_nwa, jfl_nwa, jfr_nwa, jai_nwa, jal_nwa, jar_nwa, jsz_nwa, jus_nwa, jkd_cpa, jln_cpa, jfi_cpa, jfl_cpa, jfr_cpa, jai_cpa, jal_cpa, jar_cpa, jsz_cpa, jus_cpa, and_self, if_true]; omega
    · simp only [jkd_wfi, jln_wfi, jfi_wfi, jfl_wfi, jfr_wfi, jai_wfi, jal_wfi, jar_wfi, jsz_wfi, jus_wfi, jkd_wfl, jln_wfl, jfi_wfl, jfl_wfl, jfr_wfl, jai_wfl, jal_wfl, jar_wfl, jsz_wfl, jus_wfl, jkd_wfr, jln_wfr, jfi_wfr, jfl_wfr, jfr_wfr, jai_wfr, jal_wfr, jar_wfr, jsz_wfr, jus_wfr, jkd_wai, jln_wai, jfi_wai, jfl_wai, jfr_wai, jai_wai, jal_wai, jar_wai, jsz_wai, jus_wai, jkd_wal, jln_wal, jfi_wal, jfl_wal, jfr_wal, jai_wal, jal_wal, jar_wal, jsz_wal, jus_wal, jkd_war, jln_war, jfi_war, jfl_war, jfr_war, jai_war, jal_war, jar_war, jsz_war, jus_war, jkd_nwo, jln_nwo, jfi_nwo, jfl_nwo, jfr_nwo, jai_nwo, jal_nwo, jar_nwo, jsz_nwo, jus_nwo, jkd_nwa, jln_nwa, jfi_nwa, jfl_nwa, jfr_nwa, jai_nwa, jal_nwa, jar_nwa, jsz_nwa, jus_nwa, jkd_cpa, jln_cpa, jfi_cpa, jfl_cpa, jfr_cpa, jai_cpa, jal_cpa, jar_cpa, jsz_cpa, jus_cpa, and_self, if_true]; decide
  refine t_J13_init ⟨h0, useV0 key fun h' _ _ hp => endV fun _ _ => hp⟩
theorem k_sbLatin {D : JD} {d : Nat} {h : JH} {b : Nat} {s : List Int32} (hb : SbR h b s) : cJ12_isLatin1 D (d + 1) b h (pI D h (fun v h' => v = 1 ∧ h' = h) no) :=
  t_J12_isLatin1 ⟨hb.2.1, fun z => absurd hb.2.2.1 z, fun _ => ⟨jbo1, endI fun _ _ => ⟨rfl, rfl⟩⟩⟩
/-- room for n bytes -/
theorem k_ensure {D : JD} {d : Nat} {h : JH} {b n : Nat} {x : Int32} {s : List Int32} (hb : SbR h b s) (hx : x = nI n) (hn : n ≤ 49000) (hsn : s.length ≤ n) (hg : n ≤ 2 * jln h (jfr h 71 b) + 2) :
    cJ12_ensureCapacityInternal D (d + 4) b x h (pV D h (fun h' => SbS h h' b s ∧ n ≤ jln h' (jfr h' 71 b) ∧ (jln h' (jfr h' 71 b) ≤ jln h (jfr h 71 b) ∨ jln h' (jfr h' 71 b) ≤ 2 * n)) no) := by
  subst hx
  refine JW.inv fun hI => ?_
  have hb' := hb
  obtain ⟨b0, b1, b2, b3, b4, b5, b6, b7, b8, b9, b10⟩ := hb
  have hbz : b ≤ jsz h := hI.lt (by rw [b0]; decide)
  have haz : jfr h 71 b ≤ jsz h := hI.refl
  refine t_J12_ensureCapacityInternal ⟨b1, b4, ?_⟩
  have e0 : (0 : Int32) &&& 31 = 0 := by decide
  have e1 : nI (jln h (jfr h 71 b)) >>> ((0 : Int32) &&& 31) = nI (jln h (jfr h 71 b)) := sb_shr0 _
  rw [b2, e1]
  refine ⟨fun z => endV fun _ _ => ⟨SbS.rf hb', ?_, Or.inl (Nat.le_refl _)⟩, fun z => ?_⟩
  · rcases Nat.lt_or_ge (jln h (jfr h 71 b)) n with q | q
    · rw [pk_sub (by omega)] at z
      exact absurd z (nI_nle (by omega) (by omega))
    · exact q
  · have hlt : jln h (jfr h 71 b) < n := by
      rcases Nat.lt_or_ge (jln h (jfr h 71 b)) n with q | q
      · exact q
      · refine absurd ?_ z
        rcases Nat.lt_or_ge n (jln h (jfr h 71 b)) with w | w
        · exact Int32.le_of_lt (pk_sneg (by omega) w)
        · rw [show n = jln h (jfr h 71 b) by omega, Int32.sub_self]; decide
    have hcap : cJ12_newCapacity D (d + 3) b (nI n) h (pI D h (fun v h' => v = nI (2 * jln h (jfr h 71 b) + 2) ∧ h' = h) no) := by
      refine t_J12_newCapacity ⟨b1, b4, ?_⟩
      rw [b2]
      have s1 : nI n <<< ((0 : Int32) &&& 31) = nI n := by rw [pk_shlN ((0 : Int32) &&& 31) 0 (by decide) (by omega)]; simp
      rw [s1, pk_sub (by omega), show (2 : Int32) <<< ((0 : Int32) &&& 31) = nI 2 by decide, nI_add]
      have hnl : cJ14_newLength D (d + 2) (nI (jln h (jfr h 71 b))) (nI (n - jln h (jfr h 71 b))) (nI (jln h (jfr h 71 b) + 2)) h (pI D h (fun v h' => v = nI (2 * jln h (jfr h 71 b) + 2) ∧ h' = h) no) := by
        refine t_J14_newLength (useI0 k_maxI ?_)
        rintro v h' _ _ ⟨rfl, rfl⟩
        have hm : (if nI (n - jln h' (jfr h' 71 b)) < nI (jln h' (jfr h' 71 b) + 2) then nI (jln h' (jfr h' 71 b) + 2) else nI (n - jln h' (jfr h' 71 b))) = nI (jln h' (jfr h' 71 b) + 2) := by
          by_cases w : n - jln h' (jfr h' 71 b) < jln h' (jfr h' 71 b) + 2
          · rw [if_pos (nI_lt w (by omega))]
          · rw [if_neg (nI_nlt (by omega) (by omega)), show n - jln h' (jfr h' 71 b) = jln h' (jfr h' 71 b) + 2 by omega]
        rw [hm, nI_add]
        refine ⟨fun z => absurd z (nI_nle (by omega) (by omega)), fun _ => ⟨fun z => absurd z (nI_nlt (b := _) (a := 2147483639) (by omega) (by decide)), fun _ => endI fun _ _ => ⟨by congr 1; omega, rfl⟩⟩⟩
      refine useI0 hnl ?_
      rintro v h' _ _ ⟨rfl, rfl⟩
      refine ⟨fun _ => endI fun _ _ => ⟨?_, rfl⟩, fun z => ?_⟩
      · rw [b2]; exact sb_shr0 _
      · have := (nI_eq (b := 2147483647) (by omega) (by decide)).mp z; omega
    refine useI0 hcap ?_
    rintro v h' _ _ ⟨rfl, rfl⟩
    have s1 : nI (2 * jln h' (jfr h' 71 b) + 2) <<< ((0 : Int32) &&& 31) = nI (2 * jln h' (jfr h' 71 b) + 2) := by rw [pk_shlN ((0 : Int32) &&& 31) 0 (by decide) (by omega)]; simp
    rw [b2, s1]
    have hcopy : cJ16_copyOf D (d + 3) (jfr h' 71 b) (nI (2 * jln h' (jfr h' 71 b) + 2)) h' (pR D h' 67 (fun v h2 => v = jsz h' + 1 ∧ h2 = cpa (nwa h' 220 (2 * jln h' (jfr h' 71 b) + 2)) (jfr h' 71 b) 0 (jsz h' + 1) 0 (jln h' (jfr h' 71 b))) no) := by
      refine t_J16_copyOf ⟨b4, fun _ => ⟨jsm_nI (by omega), ?_⟩, fun z => ?_⟩
      · rintro r1 h2 rfl rfl
        rw [ixn_nI (by omega)]
        refine useI0 k_minI ?_
        rintro v h3 _ _ ⟨rfl, rfl⟩
        have hne : jfr h' 71 b ≠ jsz h' + 1 := by omega
        have hm : (if nI (2 * jln h' (jfr h' 71 b) + 2) < nI (jln (nwa h' 220 (2 * jln h' (jfr h' 71 b) + 2)) (jfr h' 71 b)) then nI (2 * jln h' (jfr h' 71 b) + 2) else nI (jln (nwa h' 220 (2 * jln h' (jfr h' 71 b) + 2)) (jfr h' 71 b))) = nI (jln h' (jfr h' 71 b)) := by
          rw [jln_nwa, if_neg hne, if_neg (nI_nlt (by omega) (by omega))]
        rw [hm]
        refine ⟨⟨by decide, by decide, nI_pos (by omega), ?_, ?_, ?_⟩, ?_⟩
        · rw [ixn_nI (by omega), show ixn (0 : Int32) = 0 from rfl, jln_nwa, if_neg hne]; omega
        · rw [ixn_nI (by omega), show ixn (0 : Int32) = 0 from rfl, jln_nwa, if_pos rfl]; omega
        · intro i hi
          rw [ixn_nI (by omega)] at hi
          rw [show ixn (0 : Int32) = 0 from rfl, Nat.zero_add, jai_nwa]
          exact (b10 i hi).ft
        · rintro h4 rfl
          rw [ixn_nI (by omega), show ixn (0 : Int32) = 0 from rfl]
          exact endR fun _ _ _ => ⟨rfl, rfl⟩
      · have := (nI_eq (by omega) (by omega)).mp z; omega
    refine useR0 hcopy ?_
    rintro v h2 _ _ ⟨rfl, rfl⟩
    refine ⟨Or.inr ?_, ?_⟩
    · simp only [jkd_wfi, jln_wfi, jfi_wfi, jfl_wfi, jfr_wfi, jai_wfi, jal_wfi, jar_wfi, jsz_wfi, jus_wfi, jkd_wfl, jln_wfl, jfi_wfl, jfl_wfl, jfr_wfl, jai_wfl, jal_wfl, jar_wfl, jsz_wfl, jus_wfl, jkd_wfr, jln_wfr, jfi_wfr, jfl_wfr, jfr_wfr, jai_wfr, jal_wfr, jar_wfr, jsz_wfr, jus_wfr, jkd_wai, jln_wai, jfi_wai, jfl_wai, jfr_wai, jai_wai, jal_wai, jar_wai, jsz_wai, jus_wai, jkd_wal, jln_wal, jfi_wal, jfl_wal, jfr_wal, jai_wal, jal_wal, jar_wal, jsz_wal, jus_wal, jkd_war, jln_war, jfi_war, jfl_war, jfr_war, jai_war, jal_war, jar_war, jsz_war, jus_war, jkd_nwo, jln_nwo, jfi_nwo, jfl_nwo, jfr_nwo, jai_nwo, jal_nwo, jar_nwo, jsz_nwo, jus_nwo, jkd_nwa, jln_nwa, jfi_nwa, jfl_nwa, jfr_nwa, jai_nwa, jal_nwa, jar_nwa, jsz_nwa, jus_nwa, jkd_cpa, jln_cpa, jfi_cpa, jfl_cpa, jfr_cpa, jai_cpa, jal_cpa, jar_cpa, jsz_cpa, jus_cpa, if_true]; rfl
    · rintro h3 rfl
      have hne : jfr h' 71 b ≠ jsz h' + 1 := by omega
      have hne2 : b ≠ jsz h' + 1 := by omega
      refine endV fun _ _ => ⟨⟨?_, ((fr_nwa (Nat.le_refl _)).tr (fr_cpa (Or.inr (by omega)))).tr (fr_wfr (Or.inl (Or.inl rfl))), Or.inr ?_, ?_, ?_, ?_, fun F q hF => by simp only [jkd_wfi, jln_wfi, jfi_wfi, jfl_wfi, jfr_wfi, jai_wfi, jal_wfi, jar_wfi, jsz_wfi, jus_wfi, jkd_wfl, jln_wfl, jfi_wfl, jfl_wfl, jfr_wfl, jai_wfl, jal_wfl, jar_wfl, jsz_wfl, jus_wfl, jkd_wfr, jln_wfr, jfi_wfr, jfl_wfr, jfr_wfr, jai_wfr, jal_wfr, jar_wfr, jsz_wfr, jus_wfr, jkd_wai, jln_wai, jfi_wai, jfl_wai, jfr_wai, jai_wai, jal_wai, jar_wai, jsz_wai, jus_wai, jkd_wal, jln_wal, jfi_wal, jfl_wal, jfr_wal, jai_wal, jal_wal, jar_wal, jsz_wal, jus_wal, jkd_war, jln_war, jfi_war, jfl_war, jfr_war, jai_war, jal_war, jar_war, jsz_war, jus_war, jkd_nwo, jln_nwo, jfi_nwo, jfl_nwo, jfr_nwo, jai_nwo, jal_nwo, jar_nwo, jsz_nwo, jus_nwo, jkd_nwa, jln_nwa, jfi_nwa, jfl_nwa, jfr_nwa, jai_nwa, jal_nwa, jar_nwa, jsz_nwa, jus_nwa, jkd_cpa, jln_cpa, jfi_cpa, jfl_cpa, jfr_cpa, jai_cpa, jal_cpa, jar_cpa, jsz_cpa, jus_cpa, hF, false_and, if_false], fun _ _ => rfl⟩, ?_, Or.inr ?_⟩
      · simp only [SbR, jkd_wfi, jln_wfi, jfi_wfi, jfl_wfi, jfr_wfi, jai_wfi, jal_wfi, jar_wfi, jsz_wfi, jus_wfi, jkd_wfl, jln_wfl, jfi_wfl, jfl_wfl, jfr_wfl, jai_wfl, jal_wfl, jar_wfl, jsz_wfl, jus_wfl, jkd_wfr, jln_wfr, jfi_wfr, jfl_wfr, jfr_wfr, jai_wfr, jal_wfr, jar_wfr, jsz_wfr, jus_wfr, jkd_wai, jln_wai, jfi_wai, jfl_wai, jfr_wai, jai_wai, jal_wai, jar_wai, jsz_wai, jus_wai, jkd_wal, jln_wal, jfi_wal, jfl_wal, jfr_wal, jai_wal, jal_wal, jar_wal, jsz_wal, jus_wal, jkd_war, jln_war, jfi_war, jfl_war, jfr_war, jai_war, jal_war, jar_war, jsz_war, jus_war, jkd_nwo, jln_nwo, jfi_nwo, jfl_nwo, jfr_nwo, jai_nwo, jal_nwo, jar_nwo, jsz_nwo, jus_nwo, jkd_nwa, jln_nwa, jfi_nwa, jfl_nwa, jfr_nwa, jai_nwa, jal_nwa, jar_nwa, jsz_nwa, jus_nwa, jkd_cpa, jln_cpa, jfi_cpa, jfl_cpa, jfr_cpa, jai_cpa, jal_cpa, jar_cpa, jsz_cpa, jus_cpa, and_self, if_true, hne2, if_false, true_and]
        refine ⟨b0, b1, b2, b3, Nat.succ_ne_zero _, by omega, by omega, by omega, fun i c hc => ?_, fun i hi => ?_⟩
        · have hi : i < s.length := (List.getElem?_eq_some_iff.mp hc).1
          rw [if_pos ⟨by omega, by omega⟩]
          simpa using b9 i c hc
        · split
          · rename_i w
            have := b10 (0 + (i - 0)) (by omega)
            exact this
          · rw [hI.zai (by omega)]; rfl
      · simp only [jkd_wfi, jln_wfi, jfi_wfi, jfl_wfi, jfr_wfi, jai_wfi, jal_wfi, jar_wfi, jsz_wfi, jus_wfi, jkd_wfl, jln_wfl, jfi_wfl, jfl_wfl, jfr_wfl, jai_wfl, jal_wfl, jar_wfl, jsz_wfl, jus_wfl, jkd_wfr, jln_wfr, jfi_wfr, jfl_wfr, jfr_wfr, jai_wfr, jal_wfr, jar_wfr, jsz_wfr, jus_wfr, jkd_wai, jln_wai, jfi_wai, jfl_wai, jfr_wai, jai_wai, jal_wai, jar_wai, jsz_wai, jus_wai, jkd_wal, jln_wal, jfi_wal, jfl_wal, jfr_wal, jai_wal, jal_wal, jar_wal, jsz_wal, jus_wal, jkd_war, jln_war, jfi_war, jfl_war, jfr_war, jai_war, jal_war, jar_war, jsz_war, jus_war, jkd_nwo, jln_nwo, jfi_nwo, jfl_nwo, jfr_nwo, jai_nwo, jal_nwo, jar_nwo, jsz_nwo, jus_nwo, jkd_nwa, jln_nwa, jfi_nwa, jfl_nwa, jfr_nwa, jai_nwa, jal_nwa, jar_nwa, jsz_nwa, jus_nwa, jkd_cpa, jln_cpa, jfi_cpa, jfl_cpa, jfr_cpa, jai_cpa, jal_cpa, jar_cpa, jsz_cpa, jus_cpa, and_self, if_true]; omega
      · simp only [jkd_wfi, jln_wfi, jfi_wfi, jfl_wfi, jfr_wfi, jai_wfi, jal_wfi, jar_wfi, jsz_wfi, jus_wfi, jkd_wfl, jln_wfl, jfi_wfl, jfl_wfl, jfr_wfl, jai_wfl, jal_wfl, jar_wfl, jsz_wfl, jus_wfl, jkd_wfr, jln_wfr, jfi_wfr, jfl_wfr, jfr_wfr, jai_wfr, jal_wfr, jar_wfr, jsz_wfr, jus_wfr, jkd_wai, jln_wai, jfi_wai, jfl_wai, jfr_wai, jai_wai, jal_wai, jar_wai, jsz_wai, jus_wai, jkd_wal, jln_wal, jfi_wal, jfl_wal, jfr_wal, jai_wal, jal_wal, jar_wal, jsz_wal, jus_wal, jkd_war, jln_war, jfi_war, jfl_war, jfr_war, jai_war, jal_war, jar_war, jsz_war, jus_war, jkd_nwo, jln_nwo, jfi_nwo, jfl_nwo, jfr_nwo, jai_nwo, jal_nwo, jar_nwo, jsz_nwo, jus_nwo, jkd_nwa, jln_nwa, jfi_nwa, jfl_nwa, jfr_nwa, jai_nwa, jal_nwa, jar_nwa, jsz_nwa, jus_nwa, jkd_cpa, jln_cpa, jfi_cpa, jfl_cpa, jfr_cpa, jai_cpa, jal_cpa, jar_cpa, jsz_cpa, jus_cpa]; omega
      · simp only [jkd_wfi, jln_wfi, jfi_wfi, jfl_wfi, jfr_wfi, jai_wfi, jal_wfi, jar_wfi, jsz_wfi, jus_wfi, jkd_wfl, jln_wfl, jfi_wfl, jfl_wfl, jfr_wfl, jai_wfl, jal_wfl, jar_wfl, jsz_wfl, jus_wfl, jkd_wfr, jln_wfr, jfi_wfr, jfl_wfr, jfr_wfr, jai_wfr, jal_wfr, jar_wfr, jsz_wfr, jus_wfr, jkd_wai, jln_wai, jfi_wai, jfl_wai, jfr_wai, jai_wai, jal_wai, jar_wai, jsz_wai, jus_wai, jkd_wal, jln_wal, jfi_wal, jfl_wal, jfr_wal, jai_wal, jal_wal, jar_wal, jsz_wal, jus_wal, jkd_war, jln_war, jfi_war, jfl_war, jfr_war, jai_war, jal_war, jar_war, jsz_war, jus_war, jkd_nwo, jln_nwo, jfi_nwo, jfl_nwo, jfr_nwo, jai_nwo, jal_nwo, jar_nwo, jsz_nwo, jus_nwo, jkd_nwa, jln_nwa, jfi_nwa, jfl_nwa, jfr_nwa, jai_nwa, jal_nwa, jar_nwa, jsz_nwa, jus_nwa, jkd_cpa, jln_cpa, jfi_cpa, jfl_cpa, jfr_cpa, jai_cpa, jal_cpa, jar_cpa, jsz_cpa, jus_cpa, and_self, if_true]
        rw [show 2 * jln h' (jfr h' 71 b) + 2 + 2 = 2 * (jln h' (jfr h' 71 b) + 2) by omega, log2_dbl (by omega)]; omega
      · simp only [jkd_wfi, jln_wfi, jfi_wfi, jfl_wfi, jfr_wfi, jai_wfi, jal_wfi, jar_wfi, jsz_wfi, jus_wfi, jkd_wfl, jln_wfl, jfi_wfl, jfl_wfl, jfr_wfl, jai_wfl, jal_wfl, jar_wfl, jsz_wfl, jus_wfl, jkd_wfr, jln_wfr, jfi_wfr, jfl_wfr, jfr_wfr, jai_wfr, jal_wfr, jar_wfr, jsz_wfr, jus_wfr, jkd_wai, jln_wai, jfi_wai, jfl_wai, jfr_wai, jai_wai, jal_wai, jar_wai, jsz_wai, jus_wai, jkd_wal, jln_wal, jfi_wal, jfl_wal, jfr_wal, jai_wal, jal_wal, jar_wal, jsz_wal, jus_wal, jkd_war, jln_war, jfi_war, jfl_war, jfr_war, jai_war, jal_war, jar_war, jsz_war, jus_war, jkd_nwo, jln_nwo, jfi_nwo, jfl_nwo, jfr_nwo, jai_nwo, jal_nwo, jar_nwo, jsz_nwo, jus_nwo, jkd_nwa, jln_nwa, jfi_nwa, jfl_nwa, jfr_nwa, jai_nwa, jal_nwa, jar_nwa, jsz_nwa, jus_nwa, jkd_cpa, jln_cpa, jfi_cpa, jfl_cpa, jfr_cpa, jai_cpa, jal_cpa, jar_cpa, jsz_cpa, jus_cpa, and_self, if_true]; omega
      · simp only [jkd_wfi, jln_wfi, jfi_wfi, jfl_wfi, jfr_wfi, jai_wfi, jal_wfi, jar_wfi, jsz_wfi, jus_wfi, jkd_wfl, jln_wfl, jfi_wfl, jfl_wfl, jfr_wfl, jai_wfl, jal_wfl, jar_wfl, jsz_wfl, jus_wfl, jkd_wfr, jln_wfr, jfi_wfr, jfl_wfr, jfr_wfr, jai_wfr, jal_wfr, jar_wfr, jsz_wfr, jus_wfr, jkd_wai, jln_wai, jfi_wai, jfl_wai, jfr_wai, jai_wai, jal_wai, jar_wai, jsz_wai, jus_wai, jkd_wal, jln_wal, jfi_wal, jfl_wal, jfr_wal, jai_wal, jal_wal, jar_wal, jsz_wal, jus_wal, jkd_war, jln_war, jfi_war, jfl_war, jfr_war, jai_war, jal_war, jar_war, jsz_war, jus_war, jkd_nwo, jln_nwo, jfi_nwo, jfl_nwo, jfr_nwo, jai_nwo, jal_nwo, jar_nwo, jsz_nwo, jus_nwo, jkd_nwa, jln_nwa, jfi_nwa, jfl_nwa, jfr_nwa, jai_nwa, jal_nwa, jar_nwa, jsz_nwa, jus_nwa, jkd_cpa, jln_cpa, jfi_cpa, jfl_cpa, jfr_cpa, jai_cpa, jal_cpa, jar_cpa, jsz_cpa, jus_cpa, and_self, if_true]; omega
      · simp only [jkd_wfi, jln_wfi, jfi_wfi, jfl_wfi, jfr_wfi, jai_wfi, jal_wfi, jar_wfi, jsz_wfi, jus_wfi, jkd_wfl, jln_wfl, jfi_wfl, jfl_wfl, jfr_wfl, jai_wfl, jal_wfl, jar_wfl, jsz_wfl, jus_wfl, jkd_wfr, jln_wfr, jfi_wfr, jfl_wfr, jfr_wfr, jai_wfr, jal_wfr, jar_wfr, jsz_wfr, jus_wfr, jkd_wai, jln_wai, jfi_wai, jfl_wai, jfr_wai, jai_wai, jal_wai, jar_wai, jsz_wai, jus_wai, jkd_wal, jln_wal, jfi_wal, jfl_wal, jfr_wal, jai_wal, jal_wal, jar_wal, jsz_wal, jus_wal, jkd_war, jln_war, jfi_war, jfl_war, jfr_war, jai_war, jal_war, jar_war, jsz_war, jus_war, jkd_nwo, jln_nwo, jfi_nwo, jfl_nwo, jfr_nwo, jai_nwo, jal_nwo, jar_nwo, jsz_nwo, jus_nwo, jkd_nwa, jln_nwa, jfi_nwa, jfl_nwa, jfr_nwa, jai_nwa, jal_nwa, jar_nwa, jsz_nwa, jus_nwa, jkd_cpa, jln_cpa, jfi_cpa, jfl_cpa, jfr_cpa, jai_cpa, jal_cpa, jar_cpa, jsz_cpa, jus_cpa, and_self, if_true]; omega
/-- append of a character below 256 -/
theorem k_sbAppend {D : JD} {d : Nat} {h : JH} {b : Nat} {x : Int32} {s : List Int32} (hb : SbR h b s) (hn : s.length < 40000) (hx : ¬ 255 < x) :
    cJ13_append D (d + 6) b x h (pR D h 11 (fun v h' => v = b ∧ SbS h h' b (s ++ [x.toInt8.toInt32]) ∧ (jln h' (jfr h' 71 b) ≤ jln h (jfr h 71 b) ∨ jln h' (jfr h' 71 b) ≤ 2 * (s.length + 1))) no) := by
  have key : cJ12_append D (d + 5) b x h (pR D h 62 (fun v h' => v = b ∧ SbS h h' b (s ++ [x.toInt8.toInt32]) ∧ (jln h' (jfr h' 71 b) ≤ jln h (jfr h 71 b) ∨ jln h' (jfr h' 71 b) ≤ 2 * (s.length + 1))) no) := by
    have hcap := hb.2.2.2.2.2.2.1
    refine t_J12_append ⟨hb.2.1, ?_⟩
    rw [hb.2.2.2.1, nI_1]
    refine useV0 (k_ensure hb rfl (by omega) (by omega) (by omega)) fun h1 hI1 _ ⟨s1, c1, c2⟩ => useI0 (k_sbLatin s1.1) ?_
    rintro v h2 hI2 _ ⟨rfl, rfl⟩
    refine ⟨fun z => absurd z (by decide), fun _ => useI0 (K := fun v h' => v = 1 ∧ h' = h2) (t_J8_canEncode ⟨fun z => absurd z hx, fun _ => ⟨jbo1, endI fun _ _ => ⟨rfl, rfl⟩⟩⟩) ?_⟩
    rintro v h3 _ _ ⟨rfl, rfl⟩
    refine ⟨fun z => absurd z (by decide), fun _ => ?_⟩
    rintro h4 rfl
    have hx' := jby_b x
    obtain ⟨b0, b1, b2, b3, b4, b5, b6, b7, b8, b9, b10⟩ := s1.1
    refine ⟨b4, ?_, ?_⟩
    · rw [jln_wfi, b3]; exact jin_nI (by omega) (by omega)
    · rintro h5 rfl
      rw [b3, ixn_nI (by omega), nI_1]
      have s2 : SbS h3 (wai (wfi h3 74 b (nI (s.length + 1))) (jfr h3 71 b) s.length (Int32.toInt8 ((Int32.toInt8 x).toInt32)).toInt32) b (s ++ [x.toInt8.toInt32]) := by
        refine ⟨?_, (fr_wfi (Or.inl (Or.inl rfl))).tr (fr_wai (Or.inl (Or.inr rfl))), Or.inl rfl, Nat.le_refl _, Nat.le_refl _, Nat.le_refl _, fun _ _ _ => rfl, fun _ _ => rfl⟩
        have hx2 : (Int32.toInt8 ((Int32.toInt8 x).toInt32)).toInt32 = x.toInt8.toInt32 := hx'
        simp only [SbR, jkd_wfi, jln_wfi, jfi_wfi, jfl_wfi, jfr_wfi, jai_wfi, jal_wfi, jar_wfi, jsz_wfi, jus_wfi, jkd_wfl, jln_wfl, jfi_wfl, jfl_wfl, jfr_wfl, jai_wfl, jal_wfl, jar_wfl, jsz_wfl, jus_wfl, jkd_wfr, jln_wfr, jfi_wfr, jfl_wfr, jfr_wfr, jai_wfr, jal_wfr, jar_wfr, jsz_wfr, jus_wfr, jkd_wai, jln_wai, jfi_wai, jfl_wai, jfr_wai, jai_wai, jal_wai, jar_wai, jsz_wai, jus_wai, jkd_wal, jln_wal, jfi_wal, jfl_wal, jfr_wal, jai_wal, jal_wal, jar_wal, jsz_wal, jus_wal, jkd_war, jln_war, jfi_war, jfl_war, jfr_war, jai_war, jal_war, jar_war, jsz_war, jus_war, jkd_nwo, jln_nwo, jfi_nwo, jfl_nwo, jfr_nwo, jai_nwo, jal_nwo, jar_nwo, jsz_nwo, jus_nwo, jkd_nwa, jln_nwa, jfi_nwa, jfl_nwa, jfr_nwa, jai_nwa, jal_nwa, jar_nwa, jsz_nwa, jus_nwa, jkd_cpa, jln_cpa, jfi_cpa, jfl_cpa, jfr_cpa, jai_cpa, jal_cpa, jar_cpa, jsz_cpa, jus_cpa, and_self, if_true, List.length_append, List.length_singleton, true_and, hx2, Nat.reduceEqDiff, false_and, if_false]
        refine ⟨b0, b1, b2, b4, b5, c1, b7, b8, fun i c hc => ?_, fun i hi => ?_⟩
        · grind
        · split
          · exact hx'
          · exact b10 i hi
      refine endR fun _ _ _ => ⟨rfl, s1.tr s2, ?_⟩
      simpa only [jkd_wfi, jln_wfi, jfi_wfi, jfl_wfi, jfr_wfi, jai_wfi, jal_wfi, jar_wfi, jsz_wfi, jus_wfi, jkd_wfl, jln_wfl, jfi_wfl, jfl_wfl, jfr_wfl, jai_wfl, jal_wfl, jar_wfl, jsz_wfl, jus_wfl, jkd_wfr, jln_wfr, jfi_wfr, jfl_wfr, jfr_wfr, jai_wfr, jal_wfr, jar_wfr, jsz_wfr, jus_wfr, jkd_wai, jln_wai, jfi_wai, jfl_wai, jfr_wai, jai_wai, jal_wai, jar_wai, jsz_wai, jus_wai, jkd_wal, jln_wal, jfi_wal, jfl_wal, jfr_wal, jai_wal, jal_wal, jar_wal, jsz_wal, jus_wal, jkd_war, jln_war, jfi_war, jfl_war, jfr_war, jai_war, jal_war, jar_war, jsz_war, jus_war, jkd_nwo, jln_nwo, jfi_nwo, jfl_nwo, jfr_nwo, jai_nwo, jal_nwo, jar_nwo, jsz_nwo, jus_nwo, jkd_nwa, jln_nwa, jfi_nwa, jfl_nwa, jfr_nwa, jai_nwa, jal_nwa, jar_nwa, jsz_nwa, jus_nwa, jkd_cpa, jln_cpa, jfi_cpa, jfl_cpa, jfr_cpa, jai_cpa, jal_cpa, jar_cpa, jsz_cpa, jus_cpa] using c2
  refine t_J13_append ⟨hb.2.1, useR0 key ?_⟩
  rintro v h' _ _ ⟨rfl, hp⟩
  exact endR fun _ _ _ => ⟨rfl, hp⟩
/-- a new array of n bytes of a from off on -/
def CpR (h h' : JH) (a off n v : Nat) : Prop := v = jsz h + 1 ∧ fr (jsz h) (fun _ => False) h h' ∧ jkd h' v = 219 ∧ jln h' v = n ∧ (∀ i, i < n → jai h' v i = jai h a (off + i)) ∧ jsz h' = jsz h + 1 ∧ jus h' = jus h + n ∧ (∀ F q, jfr h' F q = jfr h F q) ∧ ∀ q i, jar h' q i = jar h q i
theorem k_copyRange {D : JD} {d : Nat} {h : JH} {a off to : Nat} {x y : Int32} (ha : a ≠ 0) (hz : a ≤ jsz h) (hx : x = nI off) (hy : y = nI to) (h1 : off ≤ to) (h2 : to ≤ jln h a) (h3 : jln h a ≤ 100000) (hb : ∀ i, i < jln h a → jby (jai h a i)) :
    cJ16_copyOfRange D (d + 3) a x y h (pR D h 67 (fun v h' => CpR h h' a off (to - off) v) no) := by
  subst hx hy
  have hne : a ≠ jsz h + 1 := by omega
  have key : cJ16_copyOfRangeByte D (d + 2) a (nI off) (nI to) h (pR D h 67 (fun v h' => CpR h h' a off (to - off) v) no) := by
    refine t_J16_copyOfRangeByte (useV0 (K := fun h' => h' = h) (t_J16_checkLength ⟨fun _ => endV fun _ _ => rfl, fun z => absurd (nI_le h1 (by omega)) z⟩) ?_)
    rintro h' _ _ rfl
    rw [pk_sub h1]
    refine ⟨jsm_nI (by omega), ?_⟩
    rintro r1 h2' rfl rfl
    rw [ixn_nI (by omega)]
    refine ⟨ha, useI0 k_minI ?_⟩
    rintro v h3' _ _ ⟨rfl, rfl⟩
    have hm : (if nI (to - off) < nI (jln (nwa h' 219 (to - off)) a) - nI off then nI (to - off) else nI (jln (nwa h' 219 (to - off)) a) - nI off) = nI (to - off) := by
      rw [jln_nwa, if_neg hne, pk_sub (by omega)]
      by_cases w : to - off < jln h' a - off
      · rw [if_pos (nI_lt w (by omega))]
      · rw [if_neg (nI_nlt (by omega) (by omega)), show jln h' a - off = to - off by omega]
    rw [hm]
    refine ⟨⟨nI_pos (by omega), by decide, nI_pos (by omega), ?_, ?_, ?_⟩, ?_⟩
    · rw [ixn_nI (by omega), ixn_nI (by omega), jln_nwa, if_neg hne]; omega
    · rw [ixn_nI (by omega), show ixn (0 : Int32) = 0 from rfl, jln_nwa, if_pos rfl]; omega
    · intro i hi
      rw [ixn_nI (by omega)] at hi
      rw [ixn_nI (by omega), jai_nwa]
      exact (hb _ (by omega)).ft
    · rintro h4 rfl
      rw [ixn_nI (by omega), ixn_nI (by omega), show ixn (0 : Int32) = 0 from rfl]
      refine endR fun _ _ _ => ⟨rfl, (fr_nwa (Nat.le_refl _)).tr (fr_cpa (Or.inr (by omega))), ?_, ?_, fun i hi => ?_, rfl, rfl, fun _ _ => rfl, fun _ _ => rfl⟩
      · simp only [jkd_wfi, jln_wfi, jfi_wfi, jfl_wfi, jfr_wfi, jai_wfi, jal_wfi, jar_wfi, jsz_wfi, jus_wfi, jkd_wfl, jln_wfl, jfi_wfl, jfl_wfl, jfr_wfl, jai_wfl, jal_wfl, jar_wfl, jsz_wfl, jus_wfl, jkd_wfr, jln_wfr, jfi_wfr, jfl_wfr, jfr_wfr, jai_wfr, jal_wfr, jar_wfr, jsz_wfr, jus_wfr, jkd_wai, jln_wai, jfi_wai, jfl_wai, jfr_wai, jai_wai, jal_wai, jar_wai, jsz_wai, jus_wai, jkd_wal, jln_wal, jfi_wal, jfl_wal, jfr_wal, jai_wal, jal_wal, jar_wal, jsz_wal, jus_wal, jkd_war, jln_war, jfi_war, jfl_war, jfr_war, jai_war, jal_war, jar_war, jsz_war, jus_war, jkd_nwo, jln_nwo, jfi_nwo, jfl_nwo, jfr_nwo, jai_nwo, jal_nwo, jar_nwo, jsz_nwo, jus_nwo, jkd_nwa, jln_nwa, jfi_nwa, jfl_nwa, jfr_nwa, jai_nwa, jal_nwa, jar_nwa, jsz_nwa, jus_nwa, jkd_cpa, jln_cpa, jfi_cpa, jfl_cpa, jfr_cpa, jai_cpa, jal_cpa, jar_cpa, jsz_cpa, jus_cpa, if_true]
      · simp only [jkd_wfi, jln_wfi, jfi_wfi, jfl_wfi, jfr_wfi, jai_wfi, jal_wfi, jar_wfi, jsz_wfi, jus_wfi, jkd_wfl, jln_wfl, jfi_wfl, jfl_wfl, jfr_wfl, jai_wfl, jal_wfl, jar_wfl, jsz_wfl, jus_wfl, jkd_wfr, jln_wfr, jfi_wfr, jfl_wfr, jfr_wfr, jai_wfr, jal_wfr, jar_wfr, jsz_wfr, jus_wfr, jkd_wai, jln_wai, jfi_wai, jfl_wai, jfr_wai, jai_wai, jal_wai, jar_wai, jsz_wai, jus_wai, jkd_wal, jln_wal, jfi_wal, jfl_wal, jfr_wal, jai_wal, jal_wal, jar_wal, jsz_wal, jus_wal, jkd_war, jln_war, jfi_war, jfl_war, jfr_war, jai_war, jal_war, jar_war, jsz_war, jus_war, jkd_nwo, jln_nwo, jfi_nwo, jfl_nwo, jfr_nwo, jai_nwo, jal_nwo, jar_nwo, jsz_nwo, jus_nwo, jkd_nwa, jln_nwa, jfi_nwa, jfl_nwa, jfr_nwa, jai_nwa, jal_nwa, jar_nwa, jsz_nwa, jus_nwa, jkd_cpa, jln_cpa, jfi_cpa, jfl_cpa, jfr_cpa, jai_cpa, jal_cpa, jar_cpa, jsz_cpa, jus_cpa, if_true]
      · rw [jai_cpa, if_pos ⟨rfl, by omega, by omega⟩, jai_nwa]; simp
  refine t_J16_copyOfRange ⟨fun _ => useR0 key fun v h' _ _ hp => endR fun _ _ _ => hp, fun z => ⟨ha, fun z2 => ⟨fun i hi => (hb i hi).ft, ?_⟩, fun _ => useR0 key fun v h' _ _ hp => endR fun _ _ _ => hp⟩⟩
  have e1 : off = 0 := (nI_eq (b := 0) (by omega) (by decide)).mp z
  have e2 : to = jln h a := (nI_eq (by omega) (by omega)).mp z2
  subst e1
  rintro r1 h2' rfl rfl
  rw [Nat.sub_zero, e2]
  refine endR fun _ _ _ => ⟨rfl, (fr_nwa (Nat.le_refl _)).tr (fr_cpa (Or.inr (by omega))), ?_, ?_, fun i hi => ?_, rfl, rfl, fun _ _ => rfl, fun _ _ => rfl⟩
  · simp only [jkd_wfi, jln_wfi, jfi_wfi, jfl_wfi, jfr_wfi, jai_wfi, jal_wfi, jar_wfi, jsz_wfi, jus_wfi, jkd_wfl, jln_wfl, jfi_wfl, jfl_wfl, jfr_wfl, jai_wfl, jal_wfl, jar_wfl, jsz_wfl, jus_wfl, jkd_wfr, jln_wfr, jfi_wfr, jfl_wfr, jfr_wfr, jai_wfr, jal_wfr, jar_wfr, jsz_wfr, jus_wfr, jkd_wai, jln_wai, jfi_wai, jfl_wai, jfr_wai, jai_wai, jal_wai, jar_wai, jsz_wai, jus_wai, jkd_wal, jln_wal, jfi_wal, jfl_wal, jfr_wal, jai_wal, jal_wal, jar_wal, jsz_wal, jus_wal, jkd_war, jln_war, jfi_war, jfl_war, jfr_war, jai_war, jal_war, jar_war, jsz_war, jus_war, jkd_nwo, jln_nwo, jfi_nwo, jfl_nwo, jfr_nwo, jai_nwo, jal_nwo, jar_nwo, jsz_nwo, jus_nwo, jkd_nwa, jln_nwa, jfi_nwa, jfl_nwa, jfr_nwa, jai_nwa, jal_nwa, jar_nwa, jsz_nwa, jus_nwa, jkd_cpa, jln_cpa, jfi_cpa, jfl_cpa, jfr_cpa, jai_cpa, jal_cpa, jar_cpa, jsz_cpa, jus_cpa, if_true]
  · simp only [jkd_wfi, jln_wfi, jfi_wfi, jfl_wfi, jfr_wfi, jai_wfi, jal_wfi, jar_wfi, jsz_wfi, jus_wfi, jkd_wfl, jln_wfl, jfi_wfl, jfl_wfl, jfr_wfl, jai_wfl, jal_wfl, jar_wfl, jsz_wfl, jus_wfl, jkd_wfr, jln_wfr, jfi_wfr, jfl_wfr, jfr_wfr, jai_wfr, jal_wfr, jar_wfr, jsz_wfr, jus_wfr, jkd_wai, jln_wai, jfi_wai, jfl_wai, jfr_wai, jai_wai, jal_wai, jar_wai, jsz_wai, jus_wai, jkd_wal, jln_wal, jfi_wal, jfl_wal, jfr_wal, jai_wal, jal_wal, jar_wal, jsz_wal, jus_wal, jkd_war, jln_war, jfi_war, jfl_war, jfr_war, jai_war, jal_war, jar_war, jsz_war, jus_war, jkd_nwo, jln_nwo, jfi_nwo, jfl_nwo, jfr_nwo, jai_nwo, jal_nwo, jar_nwo, jsz_nwo, jus_nwo, jkd_nwa, jln_nwa, jfi_nwa, jfl_nwa, jfr_nwa, jai_nwa, jal_nwa, jar_nwa, jsz_nwa, jus_nwa, jkd_cpa, jln_cpa, jfi_cpa, jfl_cpa, jfr_cpa, jai_cpa, jal_cpa, jar_cpa, jsz_cpa, jus_cpa, if_true]
  · rw [jai_cpa, if_pos ⟨rfl, by omega, by omega⟩, jai_nwa]; simp
theorem k_sbString {D : JD} {d : Nat} {h : JH} {b : Nat} {s : List Int32} (hb : SbR h b s) (hn : s.length < 100000) :
    cJ13_toString D (d + 7) b h (pR D h 64 (fun v h' => v = jsz h + 1 ∧ StR h' v s ∧ jkd h' v = 12 ∧ fr (jsz h) (fun _ => False) h h' ∧ jsz h' = jsz h + 2 ∧ jus h' = jus h + 4 + s.length ∧ (∀ F q, F ≠ 75 → jfr h' F q = jfr h F q) ∧ ∀ q i, jar h' q i = jar h q i) no) := by
  refine JW.inv fun hI => t_J13_toString ?_
  obtain ⟨b0, b1, b2, b3, b4, b5, b6, b7, b8, b9, b10⟩ := hb
  have hbz : b ≤ jsz h := hI.lt (by rw [b0]; decide)
  have haz : jfr h 71 b ≤ jsz h := hI.refl
  rintro r1 h1 rfl rfl
  have sb : same h (nwo h 12 4) b := same_nwo hbz
  have sa : same h (nwo h 12 4) (jfr h 71 b) := same_nwo haz
  have hb1 : SbR (nwo h 12 4) b s := by
    unfold SbR
    rw [sb.kd, sb.fi, sb.fi, sb.fr, sa.kd, sa.ln]
    exact ⟨b0, b1, b2, b3, b4, b5, b6, b7, b8, fun i c hc => by rw [sa.ai]; exact b9 i c hc, fun i hi => by rw [sa.ai]; exact b10 i hi⟩
  have k12 : jkd (nwo h 12 4) (jsz h + 1) = 12 := by simp only [jkd_wfi, jln_wfi, jfi_wfi, jfl_wfi, jfr_wfi, jai_wfi, jal_wfi, jar_wfi, jsz_wfi, jus_wfi, jkd_wfl, jln_wfl, jfi_wfl, jfl_wfl, jfr_wfl, jai_wfl, jal_wfl, jar_wfl, jsz_wfl, jus_wfl, jkd_wfr, jln_wfr, jfi_wfr, jfl_wfr, jfr_wfr, jai_wfr, jal_wfr, jar_wfr, jsz_wfr, jus_wfr, jkd_wai, jln_wai, jfi_wai, jfl_wai, jfr_wai, jai_wai, jal_wai, jar_wai, jsz_wai, jus_wai, jkd_wal, jln_wal, jfi_wal, jfl_wal, jfr_wal, jai_wal, jal_wal, jar_wal, jsz_wal, jus_wal, jkd_war, jln_war, jfi_war, jfl_war, jfr_war, jai_war, jal_war, jar_war, jsz_war, jus_war, jkd_nwo, jln_nwo, jfi_nwo, jfl_nwo, jfr_nwo, jai_nwo, jal_nwo, jar_nwo, jsz_nwo, jus_nwo, jkd_nwa, jln_nwa, jfi_nwa, jfl_nwa, jfr_nwa, jai_nwa, jal_nwa, jar_nwa, jsz_nwa, jus_nwa, jkd_cpa, jln_cpa, jfi_cpa, jfl_cpa, jfr_cpa, jai_cpa, jal_cpa, jar_cpa, jsz_cpa, jus_cpa, if_true]
  refine useV0 (K := fun h' => StR h' (jsz h + 1) s ∧ jkd h' (jsz h + 1) = 12 ∧ fr (jsz h) (fun _ => False) h h' ∧ jsz h' = jsz h + 2 ∧ jus h' = jus h + 4 + s.length ∧ (∀ F q, F ≠ 75 → jfr h' F q = jfr h F q) ∧ ∀ q i, jar h' q i = jar h q i) (t_J5_init ⟨Nat.succ_ne_zero _, useV0 (K := fun h' => StR h' (jsz h + 1) s ∧ jkd h' (jsz h + 1) = 12 ∧ fr (jsz h) (fun _ => False) h h' ∧ jsz h' = jsz h + 2 ∧ jus h' = jus h + 4 + s.length ∧ (∀ F q, F ≠ 75 → jfr h' F q = jfr h F q) ∧ ∀ q i, jar h' q i = jar h q i) ?_ fun h' _ _ hp => endV fun _ _ => hp⟩) fun h' _ _ hp => endR fun _ _ _ => ⟨rfl, hp⟩
  refine t_J5_init_2 ⟨Nat.succ_ne_zero _, b1, useR0 (K := fun v h' => v = jfr h 71 b ∧ h' = nwo h 12 4) (t_J12_getValue ⟨b1, endR fun _ _ _ => ⟨rfl, rfl⟩⟩) ?_⟩
  rintro v h2 _ _ ⟨rfl, rfl⟩
  refine useI0 (K := fun v h' => v = nI s.length ∧ h' = nwo h 12 4) (t_J13_length ⟨b1, useI0 (K := fun v h' => v = nI s.length ∧ h' = nwo h 12 4) (t_J12_length ⟨b1, endI fun _ _ => ⟨b3, rfl⟩⟩) fun v h' _ _ hp => endI fun _ _ => hp⟩) ?_
  rintro v h2 _ _ ⟨rfl, rfl⟩
  refine useI0 (k_sbLatin hb1) ?_
  rintro v h2 _ _ ⟨rfl, rfl⟩
  refine ⟨fun z => absurd z (by decide), fun _ => ⟨by rw [k12]; rfl, ?_⟩⟩
  rintro h3 rfl
  have sa2 : same h (wfi (nwo h 12 4) 76 (jsz h + 1) 0) (jfr h 71 b) := sa.tr (same_wfi (by omega))
  refine useR0 (k_copyRange (d := d + 1) (off := 0) (to := s.length) b4 (by simp only [jkd_wfi, jln_wfi, jfi_wfi, jfl_wfi, jfr_wfi, jai_wfi, jal_wfi, jar_wfi, jsz_wfi, jus_wfi, jkd_wfl, jln_wfl, jfi_wfl, jfl_wfl, jfr_wfl, jai_wfl, jal_wfl, jar_wfl, jsz_wfl, jus_wfl, jkd_wfr, jln_wfr, jfi_wfr, jfl_wfr, jfr_wfr, jai_wfr, jal_wfr, jar_wfr, jsz_wfr, jus_wfr, jkd_wai, jln_wai, jfi_wai, jfl_wai, jfr_wai, jai_wai, jal_wai, jar_wai, jsz_wai, jus_wai, jkd_wal, jln_wal, jfi_wal, jfl_wal, jfr_wal, jai_wal, jal_wal, jar_wal, jsz_wal, jus_wal, jkd_war, jln_war, jfi_war, jfl_war, jfr_war, jai_war, jal_war, jar_war, jsz_war, jus_war, jkd_nwo, jln_nwo, jfi_nwo, jfl_nwo, jfr_nwo, jai_nwo, jal_nwo, jar_nwo, jsz_nwo, jus_nwo, jkd_nwa, jln_nwa, jfi_nwa, jfl_nwa, jfr_nwa, jai_nwa, jal_nwa, jar_nwa, jsz_nwa, jus_nwa, jkd_cpa, jln_cpa, jfi_cpa, jfl_cpa, jfr_cpa, jai_cpa, jal_cpa, jar_cpa, jsz_cpa, jus_cpa]; omega) rfl rfl (by omega) (by rw [sa2.ln]; exact b6) (by rw [sa2.ln]; exact b8) (fun i hi => by rw [sa2.ln] at hi; rw [sa2.ai]; exact b10 i hi)) ?_
  rintro v h4 hI4 _ ⟨c1, c2, c3, c4, c5, c6, c7, c8, c9⟩
  subst c1
  have c2' := c2 (jsz h + 1) (by simp only [jkd_wfi, jln_wfi, jfi_wfi, jfl_wfi, jfr_wfi, jai_wfi, jal_wfi, jar_wfi, jsz_wfi, jus_wfi, jkd_wfl, jln_wfl, jfi_wfl, jfl_wfl, jfr_wfl, jai_wfl, jal_wfl, jar_wfl, jsz_wfl, jus_wfl, jkd_wfr, jln_wfr, jfi_wfr, jfl_wfr, jfr_wfr, jai_wfr, jal_wfr, jar_wfr, jsz_wfr, jus_wfr, jkd_wai, jln_wai, jfi_wai, jfl_wai, jfr_wai, jai_wai, jal_wai, jar_wai, jsz_wai, jus_wai, jkd_wal, jln_wal, jfi_wal, jfl_wal, jfr_wal, jai_wal, jal_wal, jar_wal, jsz_wal, jus_wal, jkd_war, jln_war, jfi_war, jfl_war, jfr_war, jai_war, jal_war, jar_war, jsz_war, jus_war, jkd_nwo, jln_nwo, jfi_nwo, jfl_nwo, jfr_nwo, jai_nwo, jal_nwo, jar_nwo, jsz_nwo, jus_nwo, jkd_nwa, jln_nwa, jfi_nwa, jfl_nwa, jfr_nwa, jai_nwa, jal_nwa, jar_nwa, jsz_nwa, jus_nwa, jkd_cpa, jln_cpa, jfi_cpa, jfl_cpa, jfr_cpa, jai_cpa, jal_cpa, jar_cpa, jsz_cpa, jus_cpa]; omega) (fun z => z)
  have k12' : jkd h4 (jsz h + 1) = 12 := by rw [c2'.kd, jkd_wfi, k12]
  refine ⟨by rw [k12']; rfl, ?_⟩
  rintro h5 rfl
  have hsz : jsz (wfi (nwo h 12 4) 76 (jsz h + 1) 0) = jsz h + 1 := rfl
  rw [hsz] at c2 c3 c4 c5 ⊢
  have hz77 : jfi h 77 (jsz h + 1) = 0 := hI.zi (by omega) 77
  have hz78 : jfi h 78 (jsz h + 1) = 0 := hI.zi (by omega) 78
  refine endV fun _ _ => ⟨?_, ?_, ?_, ?_, ?_, fun F q hF => by simp only [jkd_wfi, jln_wfi, jfi_wfi, jfl_wfi, jfr_wfi, jai_wfi, jal_wfi, jar_wfi, jsz_wfi, jus_wfi, jkd_wfl, jln_wfl, jfi_wfl, jfl_wfl, jfr_wfl, jai_wfl, jal_wfl, jar_wfl, jsz_wfl, jus_wfl, jkd_wfr, jln_wfr, jfi_wfr, jfl_wfr, jfr_wfr, jai_wfr, jal_wfr, jar_wfr, jsz_wfr, jus_wfr, jkd_wai, jln_wai, jfi_wai, jfl_wai, jfr_wai, jai_wai, jal_wai, jar_wai, jsz_wai, jus_wai, jkd_wal, jln_wal, jfi_wal, jfl_wal, jfr_wal, jai_wal, jal_wal, jar_wal, jsz_wal, jus_wal, jkd_war, jln_war, jfi_war, jfl_war, jfr_war, jai_war, jal_war, jar_war, jsz_war, jus_war, jkd_nwo, jln_nwo, jfi_nwo, jfl_nwo, jfr_nwo, jai_nwo, jal_nwo, jar_nwo, jsz_nwo, jus_nwo, jkd_nwa, jln_nwa, jfi_nwa, jfl_nwa, jfr_nwa, jai_nwa, jal_nwa, jar_nwa, jsz_nwa, jus_nwa, jkd_cpa, jln_cpa, jfi_cpa, jfl_cpa, jfr_cpa, jai_cpa, jal_cpa, jar_cpa, jsz_cpa, jus_cpa, hF, false_and, if_false]; rw [c8]; rfl, fun q i => (c9 q i).trans rfl⟩
  · have e75 : jfr (wfr h4 75 (jsz h + 1) (jsz h + 1 + 1)) 75 (jsz h + 1) = jsz h + 1 + 1 := by simp only [jkd_wfi, jln_wfi, jfi_wfi, jfl_wfi, jfr_wfi, jai_wfi, jal_wfi, jar_wfi, jsz_wfi, jus_wfi, jkd_wfl, jln_wfl, jfi_wfl, jfl_wfl, jfr_wfl, jai_wfl, jal_wfl, jar_wfl, jsz_wfl, jus_wfl, jkd_wfr, jln_wfr, jfi_wfr, jfl_wfr, jfr_wfr, jai_wfr, jal_wfr, jar_wfr, jsz_wfr, jus_wfr, jkd_wai, jln_wai, jfi_wai, jfl_wai, jfr_wai, jai_wai, jal_wai, jar_wai, jsz_wai, jus_wai, jkd_wal, jln_wal, jfi_wal, jfl_wal, jfr_wal, jai_wal, jal_wal, jar_wal, jsz_wal, jus_wal, jkd_war, jln_war, jfi_war, jfl_war, jfr_war, jai_war, jal_war, jar_war, jsz_war, jus_war, jkd_nwo, jln_nwo, jfi_nwo, jfl_nwo, jfr_nwo, jai_nwo, jal_nwo, jar_nwo, jsz_nwo, jus_nwo, jkd_nwa, jln_nwa, jfi_nwa, jfl_nwa, jfr_nwa, jai_nwa, jal_nwa, jar_nwa, jsz_nwa, jus_nwa, jkd_cpa, jln_cpa, jfi_cpa, jfl_cpa, jfr_cpa, jai_cpa, jal_cpa, jar_cpa, jsz_cpa, jus_cpa, and_self, if_true]
    unfold StR
    rw [e75]
    simp only [jkd_wfr, jfi_wfr, jln_wfr, jai_wfr]
    refine ⟨Nat.succ_ne_zero _, Or.inl k12', ?_, Nat.succ_ne_zero _, Or.inr c3, by rw [c4]; rfl, hn, fun i c hc => ?_, Or.inl ?_, Or.inl ?_, fun z => by rw [k12'] at z; cases z⟩
    · rw [c2'.fi]; simp only [jkd_wfi, jln_wfi, jfi_wfi, jfl_wfi, jfr_wfi, jai_wfi, jal_wfi, jar_wfi, jsz_wfi, jus_wfi, jkd_wfl, jln_wfl, jfi_wfl, jfl_wfl, jfr_wfl, jai_wfl, jal_wfl, jar_wfl, jsz_wfl, jus_wfl, jkd_wfr, jln_wfr, jfi_wfr, jfl_wfr, jfr_wfr, jai_wfr, jal_wfr, jar_wfr, jsz_wfr, jus_wfr, jkd_wai, jln_wai, jfi_wai, jfl_wai, jfr_wai, jai_wai, jal_wai, jar_wai, jsz_wai, jus_wai, jkd_wal, jln_wal, jfi_wal, jfl_wal, jfr_wal, jai_wal, jal_wal, jar_wal, jsz_wal, jus_wal, jkd_war, jln_war, jfi_war, jfl_war, jfr_war, jai_war, jal_war, jar_war, jsz_war, jus_war, jkd_nwo, jln_nwo, jfi_nwo, jfl_nwo, jfr_nwo, jai_nwo, jal_nwo, jar_nwo, jsz_nwo, jus_nwo, jkd_nwa, jln_nwa, jfi_nwa, jfl_nwa, jfr_nwa, jai_nwa, jal_nwa, jar_nwa, jsz_nwa, jus_nwa, jkd_cpa, jln_cpa, jfi_cpa, jfl_cpa, jfr_cpa, jai_cpa, jal_cpa, jar_cpa, jsz_cpa, jus_cpa, and_self, if_true]
    · have hi : i < s.length := (List.getElem?_eq_some_iff.mp hc).1
      rw [c5 i hi, sa2.ai, Nat.zero_add]
      exact b9 i c hc
    · rw [c2'.fi]; simp only [jkd_wfi, jln_wfi, jfi_wfi, jfl_wfi, jfr_wfi, jai_wfi, jal_wfi, jar_wfi, jsz_wfi, jus_wfi, jkd_wfl, jln_wfl, jfi_wfl, jfl_wfl, jfr_wfl, jai_wfl, jal_wfl, jar_wfl, jsz_wfl, jus_wfl, jkd_wfr, jln_wfr, jfi_wfr, jfl_wfr, jfr_wfr, jai_wfr, jal_wfr, jar_wfr, jsz_wfr, jus_wfr, jkd_wai, jln_wai, jfi_wai, jfl_wai, jfr_wai, jai_wai, jal_wai, jar_wai, jsz_wai, jus_wai, jkd_wal, jln_wal, jfi_wal, jfl_wal, jfr_wal, jai_wal, jal_wal, jar_wal, jsz_wal, jus_wal, jkd_war, jln_war, jfi_war, jfl_war, jfr_war, jai_war, jal_war, jar_war, jsz_war, jus_war, jkd_nwo, jln_nwo, jfi_nwo, jfl_nwo, jfr_nwo, jai_nwo, jal_nwo, jar_nwo, jsz_nwo, jus_nwo, jkd_nwa, jln_nwa, jfi_nwa, jfl_nwa, jfr_nwa, jai_nwa, jal_nwa, jar_nwa, jsz_nwa, jus_nwa, jkd_cpa, jln_cpa, jfi_cpa, jfl_cpa, jfr_cpa, jai_cpa, jal_cpa, jar_cpa, jsz_cpa, jus_cpa, Nat.reduceEqDiff, false_and, if_false]; exact hz77
    · rw [c2'.fi]; simp only [jkd_wfi, jln_wfi, jfi_wfi, jfl_wfi, jfr_wfi, jai_wfi, jal_wfi, jar_wfi, jsz_wfi, jus_wfi, jkd_wfl, jln_wfl, jfi_wfl, jfl_wfl, jfr_wfl, jai_wfl, jal_wfl, jar_wfl, jsz_wfl, jus_wfl, jkd_wfr, jln_wfr, jfi_wfr, jfl_wfr, jfr_wfr, jai_wfr, jal_wfr, jar_wfr, jsz_wfr, jus_wfr, jkd_wai, jln_wai, jfi_wai, jfl_wai, jfr_wai, jai_wai, jal_wai, jar_wai, jsz_wai, jus_wai, jkd_wal, jln_wal, jfi_wal, jfl_wal, jfr_wal, jai_wal, jal_wal, jar_wal, jsz_wal, jus_wal, jkd_war, jln_war, jfi_war, jfl_war, jfr_war, jai_war, jal_war, jar_war, jsz_war, jus_war, jkd_nwo, jln_nwo, jfi_nwo, jfl_nwo, jfr_nwo, jai_nwo, jal_nwo, jar_nwo, jsz_nwo, jus_nwo, jkd_nwa, jln_nwa, jfi_nwa, jfl_nwa, jfr_nwa, jai_nwa, jal_nwa, jar_nwa, jsz_nwa, jus_nwa, jkd_cpa, jln_cpa, jfi_cpa, jfl_cpa, jfr_cpa, jai_cpa, jal_cpa, jar_cpa, jsz_cpa, jus_cpa, Nat.reduceEqDiff, false_and, if_false]; exact hz78
  · rw [jkd_wfr, k12']
  · exact (((fr_nwo (Nat.le_refl _)).tr (fr_wfi (Or.inr (by omega)))).tr (c2.mono (by omega) fun _ _ z => z)).tr (fr_wfr (Or.inr (by omega)))
  · rw [jsz_wfr, c6, hsz]
  · rw [jus_wfr, c7]; rfl
