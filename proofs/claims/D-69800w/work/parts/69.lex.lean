/-! signs of the component -/
theorem wfi_wfi (h : JH) (F r : Nat) (v w : Int32) : wfi (wfi h F r v) F r w = wfi h F r w := by
  unfold wfi
  refine congrArg (Prod.mk _) (congrArg (Prod.mk _) (congrArg (fun f => (f, _)) ?_))
  funext G q
  by_cases e : G = F ∧ q = r <;> simp [e]
theorem wfi_self (h : JH) (F r : Nat) : wfi h F r (jfi h F r) = h := by
  obtain ⟨a, b, c, e⟩ := h
  unfold wfi jfi
  refine congrArg (Prod.mk _) (congrArg (Prod.mk _) (congrArg (fun f => (f, _)) ?_))
  funext G q
  by_cases z : G = F ∧ q = r
  · simp [z]
  · simp [z]
theorem a255 (x : Int32) : ∃ n, n < 65536 ∧ x &&& 255 = nI n := by
  refine ⟨(x &&& 255).toBitVec.toNat % 65536, Nat.mod_lt _ (by decide), ?_⟩
  rw [← pk_char, and255]
theorem lk_in {src : Str} {i : Nat} (h : i < src.length) : sLk src i = src[i] &&& 255 := by
  unfold sLk; rw [List.getElem?_eq_getElem h]
theorem lk_out {src : Str} {i : Nat} (h : src.length ≤ i) : sLk src i = -1 := by
  unfold sLk; rw [List.getElem?_eq_none h]
theorem lk_neg {src : Str} {i : Nat} : sLk src i < 0 ↔ src.length ≤ i := by
  rcases Nat.lt_or_ge i src.length with q | q
  · rw [lk_in q]
    obtain ⟨n, hn, e⟩ := a255 src[i]
    rw [e]
    exact ⟨fun z => absurd z (nI_pos (by omega)), fun z => absurd z (by omega)⟩
  · rw [lk_out q]; exact ⟨fun _ => q, fun _ => by decide⟩
/-- the signs s over the bytes src, which stand in the array a from base on; it stands at p -/
def SgB (h : JH) (s a base : Nat) (src : Str) (p : Nat) : Prop :=
  jkd h s = 15 ∧ s ≠ 0 ∧ jfr h 83 s = a ∧ a ≠ 0 ∧ jkd h a = 123 ∧ jfi h 84 s = nI (base + src.length) ∧ jfi h 91 s = nI base ∧ base + src.length ≤ jln h a ∧ jln h a ≤ 100000 ∧ (∀ i b, src[i]? = some b → jai h a (base + i) = b ∧ jby b) ∧ jfi h 85 s = nI (base + p) ∧ p ≤ src.length
theorem SgB.at {h : JH} {s a base p q : Nat} {src : Str} (hs : SgB h s a base src p) (hq : q ≤ src.length) : SgB (wfi h 85 s (nI (base + q))) s a base src q := by
  obtain ⟨s1, s2, s3, s4, s5, s6, s7, s8, s9, s10, s11, s12⟩ := hs
  unfold SgB
  simp only [jkd_wfi, jln_wfi, jfi_wfi, jfl_wfi, jfr_wfi, jai_wfi, jal_wfi, jar_wfi, jsz_wfi, jus_wfi, jkd_wfl, jln_wfl, jfi_wfl, jfl_wfl, jfr_wfl, jai_wfl, jal_wfl, jar_wfl, jsz_wfl, jus_wfl, jkd_wfr, jln_wfr, jfi_wfr, jfl_wfr, jfr_wfr, jai_wfr, jal_wfr, jar_wfr, jsz_wfr, jus_wfr, jkd_wai, jln_wai, jfi_wai, jfl_wai, jfr_wai, jai_wai, jal_wai, jar_wai, jsz_wai, jus_wai, jkd_wal, jln_wal, jfi_wal, jfl_wal, jfr_wal, jai_wal, jal_wal, jar_wal, jsz_wal, jus_wal, jkd_war, jln_war, jfi_war, jfl_war, jfr_war, jai_war, jal_war, jar_war, jsz_war, jus_war, jkd_nwo, jln_nwo, jfi_nwo, jfl_nwo, jfr_nwo, jai_nwo, jal_nwo, jar_nwo, jsz_nwo, jus_nwo, jkd_nwa, jln_nwa, jfi_nwa, jfl_nwa, jfr_nwa, jai_nwa, jal_nwa, jar_nwa, jsz_nwa, jus_nwa, jkd_cpa, jln_cpa, jfi_cpa, jfl_cpa, jfr_cpa, jai_cpa, jal_cpa, jar_cpa, jsz_cpa, jus_cpa, Nat.reduceEqDiff, false_and, and_self, if_false, if_true]
  exact ⟨s1, s2, s3, s4, s5, s6, s7, s8, s9, s10, trivial, hq⟩
theorem k_look {D : JD} {d : Nat} {h : JH} {s a base p k : Nat} {src : Str} {x : Int32} (hs : SgB h s a base src p) (hx : x = nI k) (hk : k < 1000) : cX18_look D (d + 1) s x h (pI D h (fun v h' => v = sLk src (p + k) ∧ h' = h) no) := by
  subst hx
  obtain ⟨s1, s2, s3, s4, s5, s6, s7, s8, s9, s10, s11, s12⟩ := hs
  refine t_X18_look ⟨s2, fun z => endI fun _ _ => ⟨?_, rfl⟩, fun z => ⟨by rw [s3]; exact s4, ?_, endI fun _ _ => ⟨?_, rfl⟩⟩⟩
  · rw [s6, s11, nI_add, nI_leI (by omega) (by omega)] at z
    rw [lk_out (by omega)]
  · rw [s6, s11, nI_add, nI_leI (by omega) (by omega)] at z
    rw [s11, s3, nI_add]; exact jin_nI (by omega) (by omega)
  · rw [s6, s11, nI_add, nI_leI (by omega) (by omega)] at z
    have hlt : p + k < src.length := by omega
    rw [s11, s3, nI_add, ixn_nI (by omega), lk_in hlt, show base + p + k = base + (p + k) by omega, (s10 (p + k) src[p + k] (List.getElem?_eq_getElem hlt)).1]
theorem k_letter {D : JD} {d : Nat} {h : JH} {x : Int32} : cX18_letter D (d + 1) x h (pI D h (fun v h' => v = (if sLetter x then 1 else 0) ∧ h' = h) no) := by
  have yes : sLetter x = true → W_X18_letter_30 D d (pI D h (fun v h' => v = (if sLetter x then 1 else 0) ∧ h' = h) no) h := fun z => ⟨jbo1, endI fun _ _ => ⟨by rw [z]; rfl, rfl⟩⟩
  have no' : sLetter x = false → W_X18_letter_35 D d (pI D h (fun v h' => v = (if sLetter x then 1 else 0) ∧ h' = h) no) 0 h := fun z => ⟨jbo0, endI fun _ _ => ⟨by rw [z]; rfl, rfl⟩⟩
  have h24 : ¬ (97 ≤ x ∧ x ≤ 122) → ¬ (65 ≤ x ∧ x ≤ 90) → W_X18_letter_24 D d (pI D h (fun v h' => v = (if sLetter x then 1 else 0) ∧ h' = h) no) x h := by
    intro n1 n2
    refine ⟨fun z => no' ?_, fun z => yes ?_⟩
    · simp only [sLetter, Bool.or_eq_false_iff, Bool.and_eq_false_iff, decide_eq_false_iff_not, beq_eq_false_iff_ne]
      exact ⟨Classical.not_and_iff_not_or_not.mp n1, Classical.not_and_iff_not_or_not.mp n2, z⟩
    · simp [sLetter, z]
  have h12 : ¬ (97 ≤ x ∧ x ≤ 122) → W_X18_letter_12 D d (pI D h (fun v h' => v = (if sLetter x then 1 else 0) ∧ h' = h) no) x h := by
    intro n1
    refine ⟨fun z => h24 n1 fun w => absurd (Int32.lt_of_lt_of_le z w.1) Int32.lt_irrefl, fun z => ⟨fun z2 => yes ?_, fun z2 => h24 n1 fun w => z2 w.2⟩⟩
    simp [sLetter, Int32.not_lt.mp z, z2]
  refine t_X18_letter ⟨fun z => h12 fun w => absurd (Int32.lt_of_lt_of_le z w.1) Int32.lt_irrefl, fun z => ⟨fun z2 => yes ?_, fun z2 => h12 fun w => z2 w.2⟩⟩
  simp [sLetter, Int32.not_lt.mp z, z2]
theorem k_digit {D : JD} {d : Nat} {h : JH} {x : Int32} : cX18_digit D (d + 1) x h (pI D h (fun v h' => v = (if sDigit x then 1 else 0) ∧ h' = h) no) := by
  refine t_X18_digit ⟨fun z => ⟨jbo0, endI fun _ _ => ⟨?_, rfl⟩⟩, fun z => ⟨fun z2 => ⟨jbo0, endI fun _ _ => ⟨?_, rfl⟩⟩, fun z2 => ⟨jbo1, endI fun _ _ => ⟨?_, rfl⟩⟩⟩⟩
  · rw [if_neg]
    simp only [sDigit, Bool.and_eq_true, decide_eq_true_eq]
    exact fun w => absurd (Int32.lt_of_lt_of_le z w.1) Int32.lt_irrefl
  · rw [if_neg]
    simp only [sDigit, Bool.and_eq_true, decide_eq_true_eq]
    exact fun w => absurd (Int32.lt_of_lt_of_le z2 w.2) Int32.lt_irrefl
  · rw [if_pos]
    simp only [sDigit, Bool.and_eq_true, decide_eq_true_eq]
    exact ⟨Int32.not_lt.mp z, Int32.not_lt.mp z2⟩
theorem k_line {D : JD} {d : Nat} {h : JH} {s a base : Nat} {src : Str} {Q : JO → JH → Prop} {K0 : Nat → JH → Prop} : ∀ (m j : Nat), SgB (wfi h 85 s (nI (base + j))) s a base src j → src.length ≤ m + j → K0 s (wfi h 85 s (nI (base + sLine src m j))) → L_X18_skip_59 D (d + 1) Q K0 (m + 1) s (wfi h 85 s (nI (base + j))) := by
  intro m
  induction m with
  | zero =>
    intro j hs hm hK
    refine ⟨hs.2.1, useI0 (k_look (k := 0) hs rfl (by decide)) ?_⟩
    rintro v h1 _ _ ⟨rfl, rfl⟩
    have hj : src.length ≤ j + 0 := by omega
    refine ⟨fun _ => hK, fun z => absurd (lk_neg.mpr hj) z⟩
  | succ m ih =>
    intro j hs hm hK
    unfold sLine at hK
    refine ⟨hs.2.1, useI0 (k_look (k := 0) hs rfl (by decide)) ?_⟩
    rintro v h1 _ _ ⟨rfl, rfl⟩
    refine ⟨fun z => ?_, fun z => useI0 (k_look (k := 0) hs rfl (by decide)) ?_⟩
    · have := lk_neg.mp z
      rw [if_neg (by simp; omega)] at hK
      exact hK
    · have hj : j < src.length := by
        rcases Nat.lt_or_ge j src.length with q | q
        · exact q
        · exact absurd (lk_neg.mpr (by simpa using q)) z
      rintro v h2 _ _ ⟨rfl, rfl⟩
      refine ⟨fun z2 => ?_, fun z2 => ?_⟩
      · rw [if_neg (by simp only [Nat.add_zero] at z2; simp [z2])] at hK
        exact hK
      · rintro h3 rfl
        rw [if_pos (by simp only [Nat.add_zero] at z2; simp [hj, z2])] at hK
        rw [hs.2.2.2.2.2.2.2.2.2.2.1, nI_1, wfi_wfi, show base + j + 1 = base + (j + 1) by omega]
        refine ih (j + 1) ?_ (by omega) hK
        have := hs.at (q := j + 1) (by omega)
        rwa [wfi_wfi] at this
theorem sLine_le (src : Str) : ∀ m j, j ≤ src.length → j ≤ sLine src m j ∧ sLine src m j ≤ src.length := by
  intro m
  induction m with
  | zero => intro j hj; exact ⟨Nat.le_refl _, hj⟩
  | succ m ih =>
    intro j hj
    unfold sLine
    split
    · rename_i w
      have hlt : j < src.length := by
        simp only [Bool.and_eq_true, decide_eq_true_eq] at w; exact w.1
      have := ih (j + 1) (by omega)
      omega
    · exact ⟨Nat.le_refl _, hj⟩
theorem sSkip_le (src : Str) : ∀ n i, i ≤ src.length → i ≤ sSkip src n i ∧ sSkip src n i ≤ src.length := by
  intro n
  induction n with
  | zero => intro i hi; exact ⟨Nat.le_refl _, hi⟩
  | succ n ih =>
    intro i hi
    unfold sSkip
    split
    · rename_i w
      have hlt : i < src.length := by
        rcases Nat.lt_or_ge i src.length with q | q
        · exact q
        · rw [lk_out q] at w; exact absurd w (by decide)
      have := ih (i + 1) (by omega)
      omega
    · split
      · have h1 := sLine_le src src.length i hi
        have := ih _ h1.2
        omega
      · exact ⟨Nat.le_refl _, hi⟩
theorem sLine_go {src : Str} {i : Nat} (hi : i < src.length) (h10 : sLk src i ≠ 10) : i + 1 ≤ sLine src src.length i := by
  obtain ⟨m, hm⟩ : ∃ m, src.length = m + 1 := ⟨src.length - 1, by omega⟩
  rw [hm]
  unfold sLine
  rw [if_pos (by simp [hi, h10])]
  exact (sLine_le src m (i + 1) (by omega)).1
theorem k_skip_l {D : JD} {d : Nat} {h : JH} {s a base : Nat} {src : Str} {Q : JO → JH → Prop} : ∀ (n i : Nat), SgB (wfi h 85 s (nI (base + i))) s a base src i → src.length < n + i → Q (.inl none) (wfi h 85 s (nI (base + sSkip src n i))) → L_X18_skip_0 D (d + 1) Q n s (wfi h 85 s (nI (base + i))) := by
  intro n
  induction n with
  | zero => intro i hs hn _; exact absurd hs.2.2.2.2.2.2.2.2.2.2.2 (by omega)
  | succ n ih =>
    intro i hs hn hQ
    have hi := hs.2.2.2.2.2.2.2.2.2.2.2
    have e85 := hs.2.2.2.2.2.2.2.2.2.2.1
    have stp : sSpace (sLk src i) = true → W_X18_skip_30 D (d + 1) Q (L_X18_skip_0 D (d + 1) Q n) s (wfi h 85 s (nI (base + i))) := by
      intro w
      have hlt : i < src.length := by
        rcases Nat.lt_or_ge i src.length with q | q
        · exact q
        · rw [lk_out q] at w; exact absurd w (by decide)
      refine ⟨hs.2.1, ?_⟩
      rintro h2 rfl
      rw [e85, nI_1, wfi_wfi, show base + i + 1 = base + (i + 1) by omega]
      unfold sSkip at hQ
      rw [if_pos w] at hQ
      refine ih (i + 1) ?_ (by omega) hQ
      have := hs.at (q := i + 1) (by omega)
      rwa [wfi_wfi] at this
    refine ⟨hs.2.1, useI0 (k_look (k := 0) hs rfl (by decide)) ?_⟩
    rintro v h1 _ _ ⟨rfl, rfl⟩
    simp only [Nat.add_zero]
    refine ⟨fun z => stp (by simp [sSpace, z]), fun z1 => ⟨fun z => stp (by simp [sSpace, z]), fun z2 => ⟨fun z => stp (by simp [sSpace, z]), fun z3 => ⟨fun z4 => ?_, fun z => stp (by simp [sSpace, z])⟩⟩⟩⟩
    have nsp : ¬ sSpace (sLk src i) = true := by simp [sSpace, z1, z2, z3, z4]
    unfold sSkip at hQ
    rw [if_neg nsp] at hQ
    refine ⟨fun z5 => ?_, fun z5 => useI0 (k_look (k := 1) hs rfl (by decide)) ?_⟩
    · rw [if_neg (by simp [z5])] at hQ
      exact hQ
    · rintro v h2 _ _ ⟨rfl, rfl⟩
      refine ⟨fun z6 => ?_, fun z6 => ?_⟩
      · rw [if_neg (by simp [z6])] at hQ
        exact hQ
      · rw [if_pos (by simp [z5, z6])] at hQ
        have hlt : i < src.length := by
          rcases Nat.lt_or_ge i src.length with q | q
          · exact q
          · rw [lk_out q] at z5; exact absurd z5 (by decide)
        have h1 := sLine_le src src.length i hi
        have h2 := sLine_go hlt (by rw [z5]; decide)
        refine ⟨src.length + 1, k_line src.length i hs (by omega) ?_⟩
        refine ih _ ?_ (by omega) hQ
        have := hs.at (q := sLine src src.length i) h1.2
        rwa [wfi_wfi] at this
theorem k_skip {D : JD} {d : Nat} {h : JH} {s a base p : Nat} {src : Str} (hs : SgB h s a base src p) : cX18_skip D (d + 2) s h (pV D h (fun h' => h' = wfi h 85 s (nI (base + sSkip src (src.length + 1) p))) no) := by
  have e : wfi h 85 s (nI (base + p)) = h := by rw [← hs.2.2.2.2.2.2.2.2.2.2.1]; exact wfi_self h 85 s
  refine t_X18_skip ⟨src.length + 1, ?_⟩
  have := k_skip_l (D := D) (d := d) (h := h) (s := s) (a := a) (base := base) (src := src) (Q := pV D h (fun h' => h' = wfi h 85 s (nI (base + sSkip src (src.length + 1) p))) no) (src.length + 1) p (by rw [e]; exact hs) (by omega) (endV fun _ _ => rfl)
  rwa [e] at this
