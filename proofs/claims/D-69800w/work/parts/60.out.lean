/-! what is answered: Out of the component -/
/-- an Out o holds the bytes bs -/
def OutR (h : JH) (o : Nat) (bs : List Int32) : Prop :=
  (jkd h o = 112 ∨ jkd h o = 113) ∧ o ≠ 0 ∧ jfr h 17 o ≠ 0 ∧ jkd h (jfr h 17 o) = 127 ∧ jfi h 18 o = nI bs.length ∧ 0 < jln h (jfr h 17 o) ∧ bs.length ≤ jln h (jfr h 17 o) ∧ jln h (jfr h 17 o) ≤ 1000000 ∧ ∀ i b, bs[i]? = some b → jai h (jfr h 17 o) i = b ∧ jby b
/-- from h to h' the Out o alone has changed, to hold bs; room is used only for its bytes -/
def OutS (h h' : JH) (o : Nat) (bs : List Int32) : Prop :=
  OutR h' o bs ∧ fr (jsz h) (fun q => q = o ∨ q = jfr h 17 o) h h' ∧ (jfr h' 17 o = jfr h 17 o ∨ jsz h < jfr h' 17 o) ∧ (∀ F, F ≠ 18 → F ≠ 19 → jfi h' F o = jfi h F o) ∧ (∀ F, jfl h' F o = jfl h F o) ∧ (∀ F q, F ≠ 17 → jfr h' F q = jfr h F q) ∧
  jkd h' o = jkd h o ∧ jsz h ≤ jsz h' ∧ jsz h' + Nat.log2 (jln h (jfr h 17 o)) ≤ jsz h + Nat.log2 (jln h' (jfr h' 17 o)) ∧ jus h ≤ jus h' ∧ jus h' + 2 * jln h (jfr h 17 o) ≤ jus h + 2 * jln h' (jfr h' 17 o)
theorem OutS.rf {h : JH} {o : Nat} {bs : List Int32} (ho : OutR h o bs) : OutS h h o bs :=
  ⟨ho, fr.rf _ _ _, Or.inl rfl, fun _ _ _ => rfl, fun _ => rfl, fun _ _ _ => rfl, rfl, Nat.le_refl _, Nat.le_refl _, Nat.le_refl _, Nat.le_refl _⟩
theorem OutS.tr {a b c : JH} {o : Nat} {bs bs' : List Int32} (h1 : OutS a b o bs) (h2 : OutS b c o bs') : OutS a c o bs' := by
  obtain ⟨a1, a2, a3, a4, a5, a6, a7, a8, a9, a10, a11⟩ := h1
  obtain ⟨b1, b2, b3, b4, b5, b6, b7, b8, b9, b10, b11⟩ := h2
  refine ⟨b1, a2.tr (b2.mono a8 fun q hq hz => ?_), ?_, fun F h1 h2 => (b4 F h1 h2).trans (a4 F h1 h2), fun F => (b5 F).trans (a5 F), fun F q h1 => (b6 F q h1).trans (a6 F q h1), b7.trans a7, by omega, by omega, by omega, by omega⟩
  · rcases hz with z | z
    · exact Or.inl z
    · rcases a3 with e | e
      · exact Or.inr (z.trans e)
      · omega
  · rcases b3 with e | e
    · rw [e]; exact a3
    · exact Or.inr (by omega)
theorem log2_dbl {n : Nat} (h : 0 < n) : Nat.log2 (2 * n) = Nat.log2 n + 1 := by
  rw [Nat.log2_def]
  rw [if_pos (by omega), Nat.mul_div_cancel_left n (by omega)]
/-- put: a byte more -/
theorem k_put {D : JD} {d : Nat} {h : JH} {o : Nat} {x : Int32} {bs : List Int32} (ho : OutR h o bs) (hn : bs.length < 500000) :
    cX2_put D (d + 1) o x h (pV D h (fun h' => OutS h h' o (bs ++ [x.toInt8.toInt32]) ∧ jfi h' 19 o = jfi h 19 o) no) := by
  obtain ⟨o0, o1, o2, o3, o4, o5, o6, o7, o8⟩ := ho
  refine JW.inv fun hI => t_X2_put ?_
  unfold T_X2_put W_X2_put_0 W_X2_put_40
  have hlen : jln h (jfr h 17 o) < 2 ^ 31 := by omega
  have hb : bs.length < 2 ^ 31 := by omega
  have hx := jby_b x
  have hx' : x.toInt8.toInt32.toInt8.toInt32 = x.toInt8.toInt32 := hx
  have hlo : jfr h 17 o ≤ jsz h := hI.refl
  have hlo2 : o ≤ jsz h := hI.lt (by rcases o0 with e | e <;> rw [e] <;> decide)
  refine ⟨o1, o2, fun hc => ?_, fun hc => ?_⟩
  · have hlt : bs.length < jln h (jfr h 17 o) := by
      rcases Nat.lt_or_ge bs.length (jln h (jfr h 17 o)) with q | q
      · exact q
      · exact absurd (by rw [o4, show bs.length = jln h (jfr h 17 o) by omega]) hc
    refine ⟨o1, o2, by rw [o4]; exact jin_nI hlt hlen, ?_⟩
    rintro h1 rfl h2 rfl
    refine endV fun _ _ => ⟨⟨?_, (fr_wai (Or.inl (Or.inr rfl))).tr (fr_wfi (Or.inl (Or.inl rfl))), Or.inl rfl, ?_, fun _ => rfl, fun _ _ _ => rfl, rfl, Nat.le_refl _, Nat.le_refl _, Nat.le_refl _, Nat.le_refl _⟩, rfl⟩
    · simp only [OutR, jkd_wfi, jln_wfi, jfi_wfi, jfl_wfi, jfr_wfi, jai_wfi, jal_wfi, jar_wfi, jsz_wfi, jus_wfi, jkd_wfl, jln_wfl, jfi_wfl, jfl_wfl, jfr_wfl, jai_wfl, jal_wfl, jar_wfl, jsz_wfl, jus_wfl, jkd_wfr, jln_wfr, jfi_wfr, jfl_wfr, jfr_wfr, jai_wfr, jal_wfr, jar_wfr, jsz_wfr, jus_wfr, jkd_wai, jln_wai, jfi_wai, jfl_wai, jfr_wai, jai_wai, jal_wai, jar_wai, jsz_wai, jus_wai, jkd_wal, jln_wal, jfi_wal, jfl_wal, jfr_wal, jai_wal, jal_wal, jar_wal, jsz_wal, jus_wal, jkd_war, jln_war, jfi_war, jfl_war, jfr_war, jai_war, jal_war, jar_war, jsz_war, jus_war, jkd_nwo, jln_nwo, jfi_nwo, jfl_nwo, jfr_nwo, jai_nwo, jal_nwo, jar_nwo, jsz_nwo, jus_nwo, jkd_nwa, jln_nwa, jfi_nwa, jfl_nwa, jfr_nwa, jai_nwa, jal_nwa, jar_nwa, jsz_nwa, jus_nwa, jkd_cpa, jln_cpa, jfi_cpa, jfl_cpa, jfr_cpa, jai_cpa, jal_cpa, jar_cpa, jsz_cpa, jus_cpa, o4, ixn_nI hb, nI_1, List.length_append, List.length_singleton, true_and, and_self, if_true]
      refine ⟨o0, o1, o2, o3, o5, hlt, o7, fun i b hib => ?_⟩
      grind
    · intro F hF _; simp only [jkd_wfi, jln_wfi, jfi_wfi, jfl_wfi, jfr_wfi, jai_wfi, jal_wfi, jar_wfi, jsz_wfi, jus_wfi, jkd_wfl, jln_wfl, jfi_wfl, jfl_wfl, jfr_wfl, jai_wfl, jal_wfl, jar_wfl, jsz_wfl, jus_wfl, jkd_wfr, jln_wfr, jfi_wfr, jfl_wfr, jfr_wfr, jai_wfr, jal_wfr, jar_wfr, jsz_wfr, jus_wfr, jkd_wai, jln_wai, jfi_wai, jfl_wai, jfr_wai, jai_wai, jal_wai, jar_wai, jsz_wai, jus_wai, jkd_wal, jln_wal, jfi_wal, jfl_wal, jfr_wal, jai_wal, jal_wal, jar_wal, jsz_wal, jus_wal, jkd_war, jln_war, jfi_war, jfl_war, jfr_war, jai_war, jal_war, jar_war, jsz_war, jus_war, jkd_nwo, jln_nwo, jfi_nwo, jfl_nwo, jfr_nwo, jai_nwo, jal_nwo, jar_nwo, jsz_nwo, jus_nwo, jkd_nwa, jln_nwa, jfi_nwa, jfl_nwa, jfr_nwa, jai_nwa, jal_nwa, jar_nwa, jsz_nwa, jus_nwa, jkd_cpa, jln_cpa, jfi_cpa, jfl_cpa, jfr_cpa, jai_cpa, jal_cpa, jar_cpa, jsz_cpa, jus_cpa, hF, false_and, if_false]
  · have he : bs.length = jln h (jfr h 17 o) := (nI_eq hb hlen).mp (o4.symm.trans hc)
    have h2m : (2 : Int32) * jfi h 18 o = nI (2 * bs.length) := by rw [o4]; exact pk_mul 2 bs.length
    refine ⟨by rw [h2m]; exact jsm_nI (by omega), ?_⟩
    rintro r1 h1 rfl rfl
    have hns : ixn ((2 : Int32) * jfi h 18 o) = 2 * bs.length := by rw [h2m]; exact ixn_nI (by omega)
    have hs0 : ixn (0 : Int32) = 0 := rfl
    have hs1 : ixn (jfi h 18 o) = bs.length := by rw [o4]; exact ixn_nI hb
    have hs2 : ixn (nI bs.length) = bs.length := ixn_nI hb
    have hne1 : jfr h 17 o ≠ jsz h + 1 := by omega
    have hne2 : o ≠ jsz h + 1 := by omega
    have hb0 : 0 < bs.length := by omega
    rw [hns]
    refine ⟨o2, ⟨by decide, by decide, by simp only [jkd_wfi, jln_wfi, jfi_wfi, jfl_wfi, jfr_wfi, jai_wfi, jal_wfi, jar_wfi, jsz_wfi, jus_wfi, jkd_wfl, jln_wfl, jfi_wfl, jfl_wfl, jfr_wfl, jai_wfl, jal_wfl, jar_wfl, jsz_wfl, jus_wfl, jkd_wfr, jln_wfr, jfi_wfr, jfl_wfr, jfr_wfr, jai_wfr, jal_wfr, jar_wfr, jsz_wfr, jus_wfr, jkd_wai, jln_wai, jfi_wai, jfl_wai, jfr_wai, jai_wai, jal_wai, jar_wai, jsz_wai, jus_wai, jkd_wal, jln_wal, jfi_wal, jfl_wal, jfr_wal, jai_wal, jal_wal, jar_wal, jsz_wal, jus_wal, jkd_war, jln_war, jfi_war, jfl_war, jfr_war, jai_war, jal_war, jar_war, jsz_war, jus_war, jkd_nwo, jln_nwo, jfi_nwo, jfl_nwo, jfr_nwo, jai_nwo, jal_nwo, jar_nwo, jsz_nwo, jus_nwo, jkd_nwa, jln_nwa, jfi_nwa, jfl_nwa, jfr_nwa, jai_nwa, jal_nwa, jar_nwa, jsz_nwa, jus_nwa, jkd_cpa, jln_cpa, jfi_cpa, jfl_cpa, jfr_cpa, jai_cpa, jal_cpa, jar_cpa, jsz_cpa, jus_cpa, o4]; exact nI_pos hb, ?_, ?_, ?_⟩, ?_⟩
    · simp only [jkd_wfi, jln_wfi, jfi_wfi, jfl_wfi, jfr_wfi, jai_wfi, jal_wfi, jar_wfi, jsz_wfi, jus_wfi, jkd_wfl, jln_wfl, jfi_wfl, jfl_wfl, jfr_wfl, jai_wfl, jal_wfl, jar_wfl, jsz_wfl, jus_wfl, jkd_wfr, jln_wfr, jfi_wfr, jfl_wfr, jfr_wfr, jai_wfr, jal_wfr, jar_wfr, jsz_wfr, jus_wfr, jkd_wai, jln_wai, jfi_wai, jfl_wai, jfr_wai, jai_wai, jal_wai, jar_wai, jsz_wai, jus_wai, jkd_wal, jln_wal, jfi_wal, jfl_wal, jfr_wal, jai_wal, jal_wal, jar_wal, jsz_wal, jus_wal, jkd_war, jln_war, jfi_war, jfl_war, jfr_war, jai_war, jal_war, jar_war, jsz_war, jus_war, jkd_nwo, jln_nwo, jfi_nwo, jfl_nwo, jfr_nwo, jai_nwo, jal_nwo, jar_nwo, jsz_nwo, jus_nwo, jkd_nwa, jln_nwa, jfi_nwa, jfl_nwa, jfr_nwa, jai_nwa, jal_nwa, jar_nwa, jsz_nwa, jus_nwa, jkd_cpa, jln_cpa, jfi_cpa, jfl_cpa, jfr_cpa, jai_cpa, jal_cpa, jar_cpa, jsz_cpa, jus_cpa, hs0, hs1, hne1, if_false]; omega
    · simp only [jkd_wfi, jln_wfi, jfi_wfi, jfl_wfi, jfr_wfi, jai_wfi, jal_wfi, jar_wfi, jsz_wfi, jus_wfi, jkd_wfl, jln_wfl, jfi_wfl, jfl_wfl, jfr_wfl, jai_wfl, jal_wfl, jar_wfl, jsz_wfl, jus_wfl, jkd_wfr, jln_wfr, jfi_wfr, jfl_wfr, jfr_wfr, jai_wfr, jal_wfr, jar_wfr, jsz_wfr, jus_wfr, jkd_wai, jln_wai, jfi_wai, jfl_wai, jfr_wai, jai_wai, jal_wai, jar_wai, jsz_wai, jus_wai, jkd_wal, jln_wal, jfi_wal, jfl_wal, jfr_wal, jai_wal, jal_wal, jar_wal, jsz_wal, jus_wal, jkd_war, jln_war, jfi_war, jfl_war, jfr_war, jai_war, jal_war, jar_war, jsz_war, jus_war, jkd_nwo, jln_nwo, jfi_nwo, jfl_nwo, jfr_nwo, jai_nwo, jal_nwo, jar_nwo, jsz_nwo, jus_nwo, jkd_nwa, jln_nwa, jfi_nwa, jfl_nwa, jfr_nwa, jai_nwa, jal_nwa, jar_nwa, jsz_nwa, jus_nwa, jkd_cpa, jln_cpa, jfi_cpa, jfl_cpa, jfr_cpa, jai_cpa, jal_cpa, jar_cpa, jsz_cpa, jus_cpa, hs0, hs1, if_true]; omega
    · intro i hi
      simp only [jkd_wfi, jln_wfi, jfi_wfi, jfl_wfi, jfr_wfi, jai_wfi, jal_wfi, jar_wfi, jsz_wfi, jus_wfi, jkd_wfl, jln_wfl, jfi_wfl, jfl_wfl, jfr_wfl, jai_wfl, jal_wfl, jar_wfl, jsz_wfl, jus_wfl, jkd_wfr, jln_wfr, jfi_wfr, jfl_wfr, jfr_wfr, jai_wfr, jal_wfr, jar_wfr, jsz_wfr, jus_wfr, jkd_wai, jln_wai, jfi_wai, jfl_wai, jfr_wai, jai_wai, jal_wai, jar_wai, jsz_wai, jus_wai, jkd_wal, jln_wal, jfi_wal, jfl_wal, jfr_wal, jai_wal, jal_wal, jar_wal, jsz_wal, jus_wal, jkd_war, jln_war, jfi_war, jfl_war, jfr_war, jai_war, jal_war, jar_war, jsz_war, jus_war, jkd_nwo, jln_nwo, jfi_nwo, jfl_nwo, jfr_nwo, jai_nwo, jal_nwo, jar_nwo, jsz_nwo, jus_nwo, jkd_nwa, jln_nwa, jfi_nwa, jfl_nwa, jfr_nwa, jai_nwa, jal_nwa, jar_nwa, jsz_nwa, jus_nwa, jkd_cpa, jln_cpa, jfi_cpa, jfl_cpa, jfr_cpa, jai_cpa, jal_cpa, jar_cpa, jsz_cpa, jus_cpa, hs0, hs1, Nat.zero_add] at hi ⊢
      obtain ⟨b, hbi⟩ : ∃ b, bs[i]? = some b := ⟨bs[i], List.getElem?_eq_getElem hi⟩
      rw [(o8 i b hbi).1]; exact (o8 i b hbi).2.ft
    · rintro h2 rfl h3 rfl
      refine ⟨o1, ?_, ?_, ?_⟩
      · simp only [jkd_wfi, jln_wfi, jfi_wfi, jfl_wfi, jfr_wfi, jai_wfi, jal_wfi, jar_wfi, jsz_wfi, jus_wfi, jkd_wfl, jln_wfl, jfi_wfl, jfl_wfl, jfr_wfl, jai_wfl, jal_wfl, jar_wfl, jsz_wfl, jus_wfl, jkd_wfr, jln_wfr, jfi_wfr, jfl_wfr, jfr_wfr, jai_wfr, jal_wfr, jar_wfr, jsz_wfr, jus_wfr, jkd_wai, jln_wai, jfi_wai, jfl_wai, jfr_wai, jai_wai, jal_wai, jar_wai, jsz_wai, jus_wai, jkd_wal, jln_wal, jfi_wal, jfl_wal, jfr_wal, jai_wal, jal_wal, jar_wal, jsz_wal, jus_wal, jkd_war, jln_war, jfi_war, jfl_war, jfr_war, jai_war, jal_war, jar_war, jsz_war, jus_war, jkd_nwo, jln_nwo, jfi_nwo, jfl_nwo, jfr_nwo, jai_nwo, jal_nwo, jar_nwo, jsz_nwo, jus_nwo, jkd_nwa, jln_nwa, jfi_nwa, jfl_nwa, jfr_nwa, jai_nwa, jal_nwa, jar_nwa, jsz_nwa, jus_nwa, jkd_cpa, jln_cpa, jfi_cpa, jfl_cpa, jfr_cpa, jai_cpa, jal_cpa, jar_cpa, jsz_cpa, jus_cpa, if_true, and_self]; omega
      · simp only [jkd_wfi, jln_wfi, jfi_wfi, jfl_wfi, jfr_wfi, jai_wfi, jal_wfi, jar_wfi, jsz_wfi, jus_wfi, jkd_wfl, jln_wfl, jfi_wfl, jfl_wfl, jfr_wfl, jai_wfl, jal_wfl, jar_wfl, jsz_wfl, jus_wfl, jkd_wfr, jln_wfr, jfi_wfr, jfl_wfr, jfr_wfr, jai_wfr, jal_wfr, jar_wfr, jsz_wfr, jus_wfr, jkd_wai, jln_wai, jfi_wai, jfl_wai, jfr_wai, jai_wai, jal_wai, jar_wai, jsz_wai, jus_wai, jkd_wal, jln_wal, jfi_wal, jfl_wal, jfr_wal, jai_wal, jal_wal, jar_wal, jsz_wal, jus_wal, jkd_war, jln_war, jfi_war, jfl_war, jfr_war, jai_war, jal_war, jar_war, jsz_war, jus_war, jkd_nwo, jln_nwo, jfi_nwo, jfl_nwo, jfr_nwo, jai_nwo, jal_nwo, jar_nwo, jsz_nwo, jus_nwo, jkd_nwa, jln_nwa, jfi_nwa, jfl_nwa, jfr_nwa, jai_nwa, jal_nwa, jar_nwa, jsz_nwa, jus_nwa, jkd_cpa, jln_cpa, jfi_cpa, jfl_cpa, jfr_cpa, jai_cpa, jal_cpa, jar_cpa, jsz_cpa, jus_cpa, if_true, and_self, o4]; exact jin_nI (by omega) (by omega)
      · rintro h4 rfl h5 rfl
        refine endV fun _ _ => ⟨⟨?_, ((((fr_nwa (Nat.le_refl _)).tr (fr_cpa (Or.inr (by omega)))).tr (fr_wfr (Or.inl (Or.inl rfl)))).tr (fr_wai (Or.inr (by simp only [jkd_wfi, jln_wfi, jfi_wfi, jfl_wfi, jfr_wfi, jai_wfi, jal_wfi, jar_wfi, jsz_wfi, jus_wfi, jkd_wfl, jln_wfl, jfi_wfl, jfl_wfl, jfr_wfl, jai_wfl, jal_wfl, jar_wfl, jsz_wfl, jus_wfl, jkd_wfr, jln_wfr, jfi_wfr, jfl_wfr, jfr_wfr, jai_wfr, jal_wfr, jar_wfr, jsz_wfr, jus_wfr, jkd_wai, jln_wai, jfi_wai, jfl_wai, jfr_wai, jai_wai, jal_wai, jar_wai, jsz_wai, jus_wai, jkd_wal, jln_wal, jfi_wal, jfl_wal, jfr_wal, jai_wal, jal_wal, jar_wal, jsz_wal, jus_wal, jkd_war, jln_war, jfi_war, jfl_war, jfr_war, jai_war, jal_war, jar_war, jsz_war, jus_war, jkd_nwo, jln_nwo, jfi_nwo, jfl_nwo, jfr_nwo, jai_nwo, jal_nwo, jar_nwo, jsz_nwo, jus_nwo, jkd_nwa, jln_nwa, jfi_nwa, jfl_nwa, jfr_nwa, jai_nwa, jal_nwa, jar_nwa, jsz_nwa, jus_nwa, jkd_cpa, jln_cpa, jfi_cpa, jfl_cpa, jfr_cpa, jai_cpa, jal_cpa, jar_cpa, jsz_cpa, jus_cpa, if_true, and_self]; omega)))).tr (fr_wfi (Or.inl (Or.inl rfl))), Or.inr ?_, ?_, fun _ => rfl, ?_, ?_, ?_, ?_, ?_, ?_⟩, rfl⟩
        · simp only [OutR, jkd_wfi, jln_wfi, jfi_wfi, jfl_wfi, jfr_wfi, jai_wfi, jal_wfi, jar_wfi, jsz_wfi, jus_wfi, jkd_wfl, jln_wfl, jfi_wfl, jfl_wfl, jfr_wfl, jai_wfl, jal_wfl, jar_wfl, jsz_wfl, jus_wfl, jkd_wfr, jln_wfr, jfi_wfr, jfl_wfr, jfr_wfr, jai_wfr, jal_wfr, jar_wfr, jsz_wfr, jus_wfr, jkd_wai, jln_wai, jfi_wai, jfl_wai, jfr_wai, jai_wai, jal_wai, jar_wai, jsz_wai, jus_wai, jkd_wal, jln_wal, jfi_wal, jfl_wal, jfr_wal, jai_wal, jal_wal, jar_wal, jsz_wal, jus_wal, jkd_war, jln_war, jfi_war, jfl_war, jfr_war, jai_war, jal_war, jar_war, jsz_war, jus_war, jkd_nwo, jln_nwo, jfi_nwo, jfl_nwo, jfr_nwo, jai_nwo, jal_nwo, jar_nwo, jsz_nwo, jus_nwo, jkd_nwa, jln_nwa, jfi_nwa, jfl_nwa, jfr_nwa, jai_nwa, jal_nwa, jar_nwa, jsz_nwa, jus_nwa, jkd_cpa, jln_cpa, jfi_cpa, jfl_cpa, jfr_cpa, jai_cpa, jal_cpa, jar_cpa, jsz_cpa, jus_cpa, o4, hs0, hs1, hs2, nI_1, List.length_append, List.length_singleton, true_and, and_self, if_true, hne2, if_false]
          refine ⟨o0, o1, by omega, by omega, by omega, by omega, fun i b hib => ?_⟩
          grind
        · simp only [jkd_wfi, jln_wfi, jfi_wfi, jfl_wfi, jfr_wfi, jai_wfi, jal_wfi, jar_wfi, jsz_wfi, jus_wfi, jkd_wfl, jln_wfl, jfi_wfl, jfl_wfl, jfr_wfl, jai_wfl, jal_wfl, jar_wfl, jsz_wfl, jus_wfl, jkd_wfr, jln_wfr, jfi_wfr, jfl_wfr, jfr_wfr, jai_wfr, jal_wfr, jar_wfr, jsz_wfr, jus_wfr, jkd_wai, jln_wai, jfi_wai, jfl_wai, jfr_wai, jai_wai, jal_wai, jar_wai, jsz_wai, jus_wai, jkd_wal, jln_wal, jfi_wal, jfl_wal, jfr_wal, jai_wal, jal_wal, jar_wal, jsz_wal, jus_wal, jkd_war, jln_war, jfi_war, jfl_war, jfr_war, jai_war, jal_war, jar_war, jsz_war, jus_war, jkd_nwo, jln_nwo, jfi_nwo, jfl_nwo, jfr_nwo, jai_nwo, jal_nwo, jar_nwo, jsz_nwo, jus_nwo, jkd_nwa, jln_nwa, jfi_nwa, jfl_nwa, jfr_nwa, jai_nwa, jal_nwa, jar_nwa, jsz_nwa, jus_nwa, jkd_cpa, jln_cpa, jfi_cpa, jfl_cpa, jfr_cpa, jai_cpa, jal_cpa, jar_cpa, jsz_cpa, jus_cpa, if_true, and_self]; omega
        · intro F hF _; simp only [jkd_wfi, jln_wfi, jfi_wfi, jfl_wfi, jfr_wfi, jai_wfi, jal_wfi, jar_wfi, jsz_wfi, jus_wfi, jkd_wfl, jln_wfl, jfi_wfl, jfl_wfl, jfr_wfl, jai_wfl, jal_wfl, jar_wfl, jsz_wfl, jus_wfl, jkd_wfr, jln_wfr, jfi_wfr, jfl_wfr, jfr_wfr, jai_wfr, jal_wfr, jar_wfr, jsz_wfr, jus_wfr, jkd_wai, jln_wai, jfi_wai, jfl_wai, jfr_wai, jai_wai, jal_wai, jar_wai, jsz_wai, jus_wai, jkd_wal, jln_wal, jfi_wal, jfl_wal, jfr_wal, jai_wal, jal_wal, jar_wal, jsz_wal, jus_wal, jkd_war, jln_war, jfi_war, jfl_war, jfr_war, jai_war, jal_war, jar_war, jsz_war, jus_war, jkd_nwo, jln_nwo, jfi_nwo, jfl_nwo, jfr_nwo, jai_nwo, jal_nwo, jar_nwo, jsz_nwo, jus_nwo, jkd_nwa, jln_nwa, jfi_nwa, jfl_nwa, jfr_nwa, jai_nwa, jal_nwa, jar_nwa, jsz_nwa, jus_nwa, jkd_cpa, jln_cpa, jfi_cpa, jfl_cpa, jfr_cpa, jai_cpa, jal_cpa, jar_cpa, jsz_cpa, jus_cpa, hF, false_and, if_false]
        · intro F q hF; simp only [jkd_wfi, jln_wfi, jfi_wfi, jfl_wfi, jfr_wfi, jai_wfi, jal_wfi, jar_wfi, jsz_wfi, jus_wfi, jkd_wfl, jln_wfl, jfi_wfl, jfl_wfl, jfr_wfl, jai_wfl, jal_wfl, jar_wfl, jsz_wfl, jus_wfl, jkd_wfr, jln_wfr, jfi_wfr, jfl_wfr, jfr_wfr, jai_wfr, jal_wfr, jar_wfr, jsz_wfr, jus_wfr, jkd_wai, jln_wai, jfi_wai, jfl_wai, jfr_wai, jai_wai, jal_wai, jar_wai, jsz_wai, jus_wai, jkd_wal, jln_wal, jfi_wal, jfl_wal, jfr_wal, jai_wal, jal_wal, jar_wal, jsz_wal, jus_wal, jkd_war, jln_war, jfi_war, jfl_war, jfr_war, jai_war, jal_war, jar_war, jsz_war, jus_war, jkd_nwo, jln_nwo, jfi_nwo, jfl_nwo, jfr_nwo, jai_nwo, jal_nwo, jar_nwo, jsz_nwo, jus_nwo, jkd_nwa, jln_nwa, jfi_nwa, jfl_nwa, jfr_nwa, jai_nwa, jal_nwa, jar_nwa, jsz_nwa, jus_nwa, jkd_cpa, jln_cpa, jfi_cpa, jfl_cpa, jfr_cpa, jai_cpa, jal_cpa, jar_cpa, jsz_cpa, jus_cpa, hF, false_and, if_false]
        · simp only [jkd_wfi, jln_wfi, jfi_wfi, jfl_wfi, jfr_wfi, jai_wfi, jal_wfi, jar_wfi, jsz_wfi, jus_wfi, jkd_wfl, jln_wfl, jfi_wfl, jfl_wfl, jfr_wfl, jai_wfl, jal_wfl, jar_wfl, jsz_wfl, jus_wfl, jkd_wfr, jln_wfr, jfi_wfr, jfl_wfr, jfr_wfr, jai_wfr, jal_wfr, jar_wfr, jsz_wfr, jus_wfr, jkd_wai, jln_wai, jfi_wai, jfl_wai, jfr_wai, jai_wai, jal_wai, jar_wai, jsz_wai, jus_wai, jkd_wal, jln_wal, jfi_wal, jfl_wal, jfr_wal, jai_wal, jal_wal, jar_wal, jsz_wal, jus_wal, jkd_war, jln_war, jfi_war, jfl_war, jfr_war, jai_war, jal_war, jar_war, jsz_war, jus_war, jkd_nwo, jln_nwo, jfi_nwo, jfl_nwo, jfr_nwo, jai_nwo, jal_nwo, jar_nwo, jsz_nwo, jus_nwo, jkd_nwa, jln_nwa, jfi_nwa, jfl_nwa, jfr_nwa, jai_nwa, jal_nwa, jar_nwa, jsz_nwa, jus_nwa, jkd_cpa, jln_cpa, jfi_cpa, jfl_cpa, jfr_cpa, jai_cpa, jal_cpa, jar_cpa, jsz_cpa, jus_cpa, hne2, if_false]
        · simp only [jkd_wfi, jln_wfi, jfi_wfi, jfl_wfi, jfr_wfi, jai_wfi, jal_wfi, jar_wfi, jsz_wfi, jus_wfi, jkd_wfl, jln_wfl, jfi_wfl, jfl_wfl, jfr_wfl, jai_wfl, jal_wfl, jar_wfl, jsz_wfl, jus_wfl, jkd_wfr, jln_wfr, jfi_wfr, jfl_wfr, jfr_wfr, jai_wfr, jal_wfr, jar_wfr, jsz_wfr, jus_wfr, jkd_wai, jln_wai, jfi_wai, jfl_wai, jfr_wai, jai_wai, jal_wai, jar_wai, jsz_wai, jus_wai, jkd_wal, jln_wal, jfi_wal, jfl_wal, jfr_wal, jai_wal, jal_wal, jar_wal, jsz_wal, jus_wal, jkd_war, jln_war, jfi_war, jfl_war, jfr_war, jai_war, jal_war, jar_war, jsz_war, jus_war, jkd_nwo, jln_nwo, jfi_nwo, jfl_nwo, jfr_nwo, jai_nwo, jal_nwo, jar_nwo, jsz_nwo, jus_nwo, jkd_nwa, jln_nwa, jfi_nwa, jfl_nwa, jfr_nwa, jai_nwa, jal_nwa, jar_nwa, jsz_nwa, jus_nwa, jkd_cpa, jln_cpa, jfi_cpa, jfl_cpa, jfr_cpa, jai_cpa, jal_cpa, jar_cpa, jsz_cpa, jus_cpa]; omega
        · simp only [jkd_wfi, jln_wfi, jfi_wfi, jfl_wfi, jfr_wfi, jai_wfi, jal_wfi, jar_wfi, jsz_wfi, jus_wfi, jkd_wfl, jln_wfl, jfi_wfl, jfl_wfl, jfr_wfl, jai_wfl, jal_wfl, jar_wfl, jsz_wfl, jus_wfl, jkd_wfr, jln_wfr, jfi_wfr, jfl_wfr, jfr_wfr, jai_wfr, jal_wfr, jar_wfr, jsz_wfr, jus_wfr, jkd_wai, jln_wai, jfi_wai, jfl_wai, jfr_wai, jai_wai, jal_wai, jar_wai, jsz_wai, jus_wai, jkd_wal, jln_wal, jfi_wal, jfl_wal, jfr_wal, jai_wal, jal_wal, jar_wal, jsz_wal, jus_wal, jkd_war, jln_war, jfi_war, jfl_war, jfr_war, jai_war, jal_war, jar_war, jsz_war, jus_war, jkd_nwo, jln_nwo, jfi_nwo, jfl_nwo, jfr_nwo, jai_nwo, jal_nwo, jar_nwo, jsz_nwo, jus_nwo, jkd_nwa, jln_nwa, jfi_nwa, jfl_nwa, jfr_nwa, jai_nwa, jal_nwa, jar_nwa, jsz_nwa, jus_nwa, jkd_cpa, jln_cpa, jfi_cpa, jfl_cpa, jfr_cpa, jai_cpa, jal_cpa, jar_cpa, jsz_cpa, jus_cpa, if_true, and_self, ← he, log2_dbl hb0]; omega
        · simp only [jkd_wfi, jln_wfi, jfi_wfi, jfl_wfi, jfr_wfi, jai_wfi, jal_wfi, jar_wfi, jsz_wfi, jus_wfi, jkd_wfl, jln_wfl, jfi_wfl, jfl_wfl, jfr_wfl, jai_wfl, jal_wfl, jar_wfl, jsz_wfl, jus_wfl, jkd_wfr, jln_wfr, jfi_wfr, jfl_wfr, jfr_wfr, jai_wfr, jal_wfr, jar_wfr, jsz_wfr, jus_wfr, jkd_wai, jln_wai, jfi_wai, jfl_wai, jfr_wai, jai_wai, jal_wai, jar_wai, jsz_wai, jus_wai, jkd_wal, jln_wal, jfi_wal, jfl_wal, jfr_wal, jai_wal, jal_wal, jar_wal, jsz_wal, jus_wal, jkd_war, jln_war, jfi_war, jfl_war, jfr_war, jai_war, jal_war, jar_war, jsz_war, jus_war, jkd_nwo, jln_nwo, jfi_nwo, jfl_nwo, jfr_nwo, jai_nwo, jal_nwo, jar_nwo, jsz_nwo, jus_nwo, jkd_nwa, jln_nwa, jfi_nwa, jfl_nwa, jfr_nwa, jai_nwa, jal_nwa, jar_nwa, jsz_nwa, jus_nwa, jkd_cpa, jln_cpa, jfi_cpa, jfl_cpa, jfr_cpa, jai_cpa, jal_cpa, jar_cpa, jsz_cpa, jus_cpa]; omega
        · simp only [jkd_wfi, jln_wfi, jfi_wfi, jfl_wfi, jfr_wfi, jai_wfi, jal_wfi, jar_wfi, jsz_wfi, jus_wfi, jkd_wfl, jln_wfl, jfi_wfl, jfl_wfl, jfr_wfl, jai_wfl, jal_wfl, jar_wfl, jsz_wfl, jus_wfl, jkd_wfr, jln_wfr, jfi_wfr, jfl_wfr, jfr_wfr, jai_wfr, jal_wfr, jar_wfr, jsz_wfr, jus_wfr, jkd_wai, jln_wai, jfi_wai, jfl_wai, jfr_wai, jai_wai, jal_wai, jar_wai, jsz_wai, jus_wai, jkd_wal, jln_wal, jfi_wal, jfl_wal, jfr_wal, jai_wal, jal_wal, jar_wal, jsz_wal, jus_wal, jkd_war, jln_war, jfi_war, jfl_war, jfr_war, jai_war, jal_war, jar_war, jsz_war, jus_war, jkd_nwo, jln_nwo, jfi_nwo, jfl_nwo, jfr_nwo, jai_nwo, jal_nwo, jar_nwo, jsz_nwo, jus_nwo, jkd_nwa, jln_nwa, jfi_nwa, jfl_nwa, jfr_nwa, jai_nwa, jal_nwa, jar_nwa, jsz_nwa, jus_nwa, jkd_cpa, jln_cpa, jfi_cpa, jfl_cpa, jfr_cpa, jai_cpa, jal_cpa, jar_cpa, jsz_cpa, jus_cpa, if_true, and_self]; omega
/-- the n low bytes of a number, the highest first -/
def bBE (v : Int64) : Nat → List Int32
  | 0 => []
  | n + 1 => (Int64.toInt32 (v >>> (Int32.toInt64 (8 * nI n) &&& 63))).toInt8.toInt32 :: bBE v n
theorem bBE_len (v : Int64) (n : Nat) : (bBE v n).length = n := by
  induction n with
  | zero => rfl
  | succ n ih => simp [bBE, ih]
theorem k_number_l {D : JD} {d : Nat} {o : Nat} {v : Int64} {Q : JO → JH → Prop} : ∀ (k : Nat) (h : JH) (bs : List Int32), OutR h o bs → bs.length + k < 500000 → (∀ h', OutS h h' o (bs ++ bBE v k) → jfi h' 19 o = jfi h 19 o → Q (.inl none) h') →
    L_X2_number_5 D (d + 1) Q (k + 1) o v (nI k - 1) h := by
  intro k
  induction k with
  | zero =>
    intro h bs ho hn hQ
    refine ⟨fun _ => hQ h (by simpa [bBE] using OutS.rf ho) rfl, fun hc => absurd (by decide) hc⟩
  | succ k ih =>
    intro h bs ho hn hQ
    have e1 : nI (k + 1) - 1 = nI k := nI_pred k
    show W_X2_number_5 _ _ _ _ _ _ _ _
    unfold W_X2_number_5
    rw [e1]
    refine ⟨fun hc => absurd hc (nI_pos (by omega)), fun _ => ⟨ho.2.1, useV0 (k_put ho (by omega)) fun h1 hI1 hl1 ⟨s1, e⟩ => ?_⟩⟩
    rw [show nI k + (-1) = nI k - 1 from (Int32.sub_eq_add_neg _ _).symm]
    refine ih h1 _ s1.1 (by simp; omega) fun h2 s2 e2 => hQ h2 ?_ (e2.trans e)
    have := s1.tr s2
    simpa [bBE, List.append_assoc] using this
theorem k_number {D : JD} {d : Nat} {h : JH} {o k : Nat} {v : Int64} {x : Int32} {bs : List Int32} (ho : OutR h o bs) (hn : bs.length + k < 500000) (hx : x = nI k) :
    cX2_number D (d + 2) o v x h (pV D h (fun h' => OutS h h' o (bs ++ bBE v k) ∧ jfi h' 19 o = jfi h 19 o) no) := by
  subst hx
  refine t_X2_number ⟨k + 1, k_number_l k h bs ho hn fun h' s e => endV fun _ _ => ⟨s, e⟩⟩
theorem k_clear {D : JD} {d : Nat} {h : JH} {o : Nat} {bs : List Int32} (ho : OutR h o bs) : cX2_clear D (d + 1) o h (pV D h (fun h' => h' = wfi h 18 o 0) no) :=
  t_X2_clear ⟨ho.2.1, by rintro h' rfl; exact endV fun _ _ => rfl⟩
theorem OutR.clear {h : JH} {o : Nat} {bs : List Int32} (ho : OutR h o bs) : OutR (wfi h 18 o 0) o [] := by
  obtain ⟨o0, o1, o2, o3, o4, o5, o6, o7, o8⟩ := ho
  simp only [OutR, jkd_wfi, jln_wfi, jfi_wfi, jfl_wfi, jfr_wfi, jai_wfi, jal_wfi, jar_wfi, jsz_wfi, jus_wfi, jkd_wfl, jln_wfl, jfi_wfl, jfl_wfl, jfr_wfl, jai_wfl, jal_wfl, jar_wfl, jsz_wfl, jus_wfl, jkd_wfr, jln_wfr, jfi_wfr, jfl_wfr, jfr_wfr, jai_wfr, jal_wfr, jar_wfr, jsz_wfr, jus_wfr, jkd_wai, jln_wai, jfi_wai, jfl_wai, jfr_wai, jai_wai, jal_wai, jar_wai, jsz_wai, jus_wai, jkd_wal, jln_wal, jfi_wal, jfl_wal, jfr_wal, jai_wal, jal_wal, jar_wal, jsz_wal, jus_wal, jkd_war, jln_war, jfi_war, jfl_war, jfr_war, jai_war, jal_war, jar_war, jsz_war, jus_war, jkd_nwo, jln_nwo, jfi_nwo, jfl_nwo, jfr_nwo, jai_nwo, jal_nwo, jar_nwo, jsz_nwo, jus_nwo, jkd_nwa, jln_nwa, jfi_nwa, jfl_nwa, jfr_nwa, jai_nwa, jal_nwa, jar_nwa, jsz_nwa, jus_nwa, jkd_cpa, jln_cpa, jfi_cpa, jfl_cpa, jfr_cpa, jai_cpa, jal_cpa, jar_cpa, jsz_cpa, jus_cpa, true_and, if_true]
  exact ⟨o0, o1, o2, o3, rfl, o5, by simp, o7, fun i b hb => by simp at hb⟩
theorem OutR.lt {D : JD} {h : JH} {o : Nat} {bs : List Int32} (hI : JInv D h) (ho : OutR h o bs) : o ≤ jsz h ∧ jfr h 17 o ≤ jsz h :=
  ⟨hI.lt (by rcases ho.1 with e | e <;> rw [e] <;> decide), hI.refl⟩
/-- an Out is as it was where its object and its bytes are -/
theorem OutR.of {h h' : JH} {o : Nat} {bs : List Int32} (ho : OutR h o bs) (h1 : same h h' o) (h2 : same h h' (jfr h 17 o)) : OutR h' o bs := by
  obtain ⟨o0, o1, o2, o3, o4, o5, o6, o7, o8⟩ := ho
  unfold OutR
  rw [h1.kd, h1.fr, h1.fi, h2.kd, h2.ln]
  exact ⟨o0, o1, o2, o3, o4, o5, o6, o7, fun i b hb => by rw [h2.ai]; exact o8 i b hb⟩
theorem b255 (x : Int32) : (x &&& 255).toInt8.toInt32 = x.toInt8.toInt32 := by
  have : (x &&& 255).toInt8 = x.toInt8 := by
    rw [Int32.toInt8_and]
    show x.toInt8 &&& (-1) = _
    simp
  rw [this]
/-- the field begin alone changes -/
theorem OutS.begin {h : JH} {o : Nat} {bs : List Int32} (ho : OutR h o bs) (v : Int32) : OutS h (wfi h 19 o v) o bs := by
  refine ⟨?_, fr_wfi (Or.inl (Or.inl rfl)), Or.inl rfl, fun F _ hF => by simp only [jkd_wfi, jln_wfi, jfi_wfi, jfl_wfi, jfr_wfi, jai_wfi, jal_wfi, jar_wfi, jsz_wfi, jus_wfi, jkd_wfl, jln_wfl, jfi_wfl, jfl_wfl, jfr_wfl, jai_wfl, jal_wfl, jar_wfl, jsz_wfl, jus_wfl, jkd_wfr, jln_wfr, jfi_wfr, jfl_wfr, jfr_wfr, jai_wfr, jal_wfr, jar_wfr, jsz_wfr, jus_wfr, jkd_wai, jln_wai, jfi_wai, jfl_wai, jfr_wai, jai_wai, jal_wai, jar_wai, jsz_wai, jus_wai, jkd_wal, jln_wal, jfi_wal, jfl_wal, jfr_wal, jai_wal, jal_wal, jar_wal, jsz_wal, jus_wal, jkd_war, jln_war, jfi_war, jfl_war, jfr_war, jai_war, jal_war, jar_war, jsz_war, jus_war, jkd_nwo, jln_nwo, jfi_nwo, jfl_nwo, jfr_nwo, jai_nwo, jal_nwo, jar_nwo, jsz_nwo, jus_nwo, jkd_nwa, jln_nwa, jfi_nwa, jfl_nwa, jfr_nwa, jai_nwa, jal_nwa, jar_nwa, jsz_nwa, jus_nwa, jkd_cpa, jln_cpa, jfi_cpa, jfl_cpa, jfr_cpa, jai_cpa, jal_cpa, jar_cpa, jsz_cpa, jus_cpa, hF, false_and, if_false], fun _ => rfl, fun _ _ _ => rfl, rfl, Nat.le_refl _, Nat.le_refl _, Nat.le_refl _, Nat.le_refl _⟩
  simpa only [OutR, jkd_wfi, jln_wfi, jfi_wfi, jfl_wfi, jfr_wfi, jai_wfi, jal_wfi, jar_wfi, jsz_wfi, jus_wfi, jkd_wfl, jln_wfl, jfi_wfl, jfl_wfl, jfr_wfl, jai_wfl, jal_wfl, jar_wfl, jsz_wfl, jus_wfl, jkd_wfr, jln_wfr, jfi_wfr, jfl_wfr, jfr_wfr, jai_wfr, jal_wfr, jar_wfr, jsz_wfr, jus_wfr, jkd_wai, jln_wai, jfi_wai, jfl_wai, jfr_wai, jai_wai, jal_wai, jar_wai, jsz_wai, jus_wai, jkd_wal, jln_wal, jfi_wal, jfl_wal, jfr_wal, jai_wal, jal_wal, jar_wal, jsz_wal, jus_wal, jkd_war, jln_war, jfi_war, jfl_war, jfr_war, jai_war, jal_war, jar_war, jsz_war, jus_war, jkd_nwo, jln_nwo, jfi_nwo, jfl_nwo, jfr_nwo, jai_nwo, jal_nwo, jar_nwo, jsz_nwo, jus_nwo, jkd_nwa, jln_nwa, jfi_nwa, jfl_nwa, jfr_nwa, jai_nwa, jal_nwa, jar_nwa, jsz_nwa, jus_nwa, jkd_cpa, jln_cpa, jfi_cpa, jfl_cpa, jfr_cpa, jai_cpa, jal_cpa, jar_cpa, jsz_cpa, jus_cpa, Nat.reduceEqDiff, false_and, if_false] using ho
theorem k_open {D : JD} {d : Nat} {h : JH} {o : Nat} {x : Int32} {bs : List Int32} (ho : OutR h o bs) (hn : bs.length + 5 < 500000) :
    cX2_open D (d + 3) o x h (pR D h 2 (fun v h' => v = o ∧ OutS h h' o (bs ++ [x.toInt8.toInt32] ++ [0, 0, 0, 0]) ∧ jfi h' 19 o = nI (bs.length + 1)) no) := by
  refine t_X2_open ⟨ho.2.1, useV0 (k_put (d := d + 1) ho (by omega)) fun h1 _ _ ⟨s1, e⟩ => ?_⟩
  rintro h2 rfl
  have s2 := OutS.begin s1.1 (jfi h1 18 o)
  refine useV0 (k_number (k := 4) s2.1 (by simp; omega) rfl) fun h3 _ _ ⟨s3, e3⟩ => endR fun _ _ _ => ⟨rfl, ?_, ?_⟩
  · have := (s1.tr s2).tr s3
    rwa [show bBE 0 4 = [0, 0, 0, 0] by decide] at this
  · rw [e3, jfi_wfi, if_pos ⟨rfl, rfl⟩, s1.1.2.2.2.2.1]; simp
/-- the length of the message that begins at g is written over its first four bytes -/
def cByte (n k : Nat) : Int32 := (nI n >>> ((24 - 8 * nI k) &&& 31)).toInt8.toInt32
def bClose (bs : List Int32) (g : Nat) : List Int32 := (((bs.set g (cByte (bs.length - g) 0)).set (g + 1) (cByte (bs.length - g) 1)).set (g + 2) (cByte (bs.length - g) 2)).set (g + 3) (cByte (bs.length - g) 3)
theorem OutS.setB {h : JH} {o g : Nat} {bs : List Int32} {v : Int32} (ho : OutR h o bs) (hg : g < bs.length) (hv : jby v) : OutS h (wai h (jfr h 17 o) g v) o (bs.set g v) := by
  obtain ⟨o0, o1, o2, o3, o4, o5, o6, o7, o8⟩ := ho
  refine ⟨?_, fr_wai (Or.inl (Or.inr rfl)), Or.inl rfl, fun _ _ _ => rfl, fun _ => rfl, fun _ _ _ => rfl, rfl, Nat.le_refl _, Nat.le_refl _, Nat.le_refl _, Nat.le_refl _⟩
  simp only [OutR, jkd_wfi, jln_wfi, jfi_wfi, jfl_wfi, jfr_wfi, jai_wfi, jal_wfi, jar_wfi, jsz_wfi, jus_wfi, jkd_wfl, jln_wfl, jfi_wfl, jfl_wfl, jfr_wfl, jai_wfl, jal_wfl, jar_wfl, jsz_wfl, jus_wfl, jkd_wfr, jln_wfr, jfi_wfr, jfl_wfr, jfr_wfr, jai_wfr, jal_wfr, jar_wfr, jsz_wfr, jus_wfr, jkd_wai, jln_wai, jfi_wai, jfl_wai, jfr_wai, jai_wai, jal_wai, jar_wai, jsz_wai, jus_wai, jkd_wal, jln_wal, jfi_wal, jfl_wal, jfr_wal, jai_wal, jal_wal, jar_wal, jsz_wal, jus_wal, jkd_war, jln_war, jfi_war, jfl_war, jfr_war, jai_war, jal_war, jar_war, jsz_war, jus_war, jkd_nwo, jln_nwo, jfi_nwo, jfl_nwo, jfr_nwo, jai_nwo, jal_nwo, jar_nwo, jsz_nwo, jus_nwo, jkd_nwa, jln_nwa, jfi_nwa, jfl_nwa, jfr_nwa, jai_nwa, jal_nwa, jar_nwa, jsz_nwa, jus_nwa, jkd_cpa, jln_cpa, jfi_cpa, jfl_cpa, jfr_cpa, jai_cpa, jal_cpa, jar_cpa, jsz_cpa, jus_cpa, List.length_set, true_and]
  refine ⟨o0, o1, o2, o3, o4, o5, o6, o7, fun i b hb => ?_⟩
  grind
theorem k_close {D : JD} {d : Nat} {h : JH} {o g : Nat} {bs : List Int32} (ho : OutR h o bs) (hg : jfi h 19 o = nI g) (hb : g + 4 ≤ bs.length) (hn : bs.length < 500000) :
    cX2_close D (d + 1) o h (pV D h (fun h' => OutS h h' o (bClose bs g)) no) := by
  have hsz : jfi h 18 o = nI bs.length := ho.2.2.2.2.1
  have step : ∀ (Q : JO → JH → Prop) (n k : Nat) (h1 : JH) (bs1 : List Int32), OutR h1 o bs1 → jfi h1 19 o = nI g → bs1.length = bs.length → k < 4 → (∀ h2, OutS h1 h2 o (bs1.set (g + k) (cByte (bs.length - g) k)) → jfi h2 19 o = nI g → L_X2_close_12 D d Q n o (nI (bs.length - g)) (nI (k + 1)) h2) → L_X2_close_12 D d Q (n + 1) o (nI (bs.length - g)) (nI k) h1 := by
    intro Q n k h1 bs1 h1o h1g h1l hk hc
    have hin : jin (nI (g + k)) (jln h1 (jfr h1 17 o)) := jin_nI (by have := h1o.2.2.2.2.2.2.1; omega) (by have := h1o.2.2.2.2.2.2.2.1; omega)
    refine ⟨fun z => absurd z (nI_ge (b := 4) hk (by omega)), fun _ => ⟨h1o.2.1, h1o.2.2.1, by rw [h1g, nI_add]; exact hin, ?_⟩⟩
    rintro h2 rfl
    rw [nI_1, h1g, nI_add, ixn_nI (by omega)]
    have hx := jby_b (nI (bs.length - g) >>> ((24 - 8 * nI k) &&& 31))
    rw [show (Int32.toInt8 ((Int32.toInt8 (nI (bs.length - g) >>> ((24 - 8 * nI k) &&& 31))).toInt32)).toInt32 = cByte (bs.length - g) k from hx]
    exact hc _ (OutS.setB h1o (by omega) hx) (by rw [jfi_wai]; exact h1g)
  refine t_X2_close ⟨ho.2.1, 5, ?_⟩
  rw [hsz, hg, pk_sub (by omega)]
  refine step _ 4 0 h bs ho hg rfl (by omega) fun h1 s1 g1 => step _ 3 1 h1 _ s1.1 g1 (by simp) (by omega) fun h2 s2 g2 => step _ 2 2 h2 _ s2.1 g2 (by simp) (by omega) fun h3 s3 g3 => step _ 1 3 h3 _ s3.1 g3 (by simp) (by omega) fun h4 s4 g4 => ?_
  exact ⟨fun _ => endV fun _ _ => ((s1.tr s2).tr s3).tr s4, fun z => absurd (by decide) z⟩
theorem k_plain {D : JD} {d : Nat} {h : JH} {o : Nat} {x : Int32} {bs : List Int32} (ho : OutR h o bs) (hn : bs.length + 5 < 500000) :
    cX2_plain D (d + 4) o x h (pV D h (fun h' => OutS h h' o (bClose (bs ++ [x.toInt8.toInt32] ++ [0, 0, 0, 0]) (bs.length + 1))) no) := by
  refine t_X2_plain ⟨ho.2.1, useR0 (k_open ho hn) fun v h1 _ _ ⟨e, s1, g1⟩ => ?_⟩
  subst e
  exact useV0 (k_close s1.1 g1 (by simp) (by simp; omega)) fun h2 _ _ s2 => endV fun _ _ => s1.tr s2
/-- bytes of another array are put behind -/
theorem k_copy {D : JD} {d : Nat} {h : JH} {o a off n : Nat} {xo xn : Int32} {bs cs : List Int32} (ho : OutR h o bs) (hn : bs.length + n < 500000) (hx : xo = nI off) (hy : xn = nI n) (hc : cs.length = n) (ha : a ≠ 0) (hne : a ≠ o ∧ a ≠ jfr h 17 o) (hz : a ≤ jsz h) (hlen : off + n ≤ jln h a ∧ jln h a < 2 ^ 30)
    (hcs : ∀ i b, cs[i]? = some b → jai h a (off + i) = b ∧ jby b) :
    cX2_copy D (d + 2) o a xo xn h (pV D h (fun h' => OutS h h' o (bs ++ cs)) no) := by
  subst hx hy
  have loop : ∀ (Q : JO → JH → Prop) (k i : Nat) (h1 : JH), k = n - i → i ≤ n → OutS h h1 o (bs ++ cs.take i) → (∀ h2, OutS h h2 o (bs ++ cs) → Q (.inl none) h2) → L_X2_copy_3 D (d + 1) Q (k + 1) o a (nI off) (nI n) (nI i) h1 := by
    intro Q k
    induction k with
    | zero =>
      intro i h1 hk hi s1 hQ
      refine ⟨fun _ => hQ h1 (by rwa [List.take_of_length_le (by omega)] at s1), fun z => absurd (nI_le (by omega) (by omega)) z⟩
    | succ k ih =>
      intro i h1 hk hi s1 hQ
      have hi' : i < n := by omega
      have hsa : same h h1 a := s1.2.1 a hz (fun z => by rcases z with z | z; exact hne.1 z; exact hne.2 z)
      obtain ⟨q1, q2⟩ := hcs i cs[i] (List.getElem?_eq_getElem (by omega))
      refine ⟨fun z => absurd z (nI_ge hi' (by omega)), fun _ => ⟨ha, by rw [nI_add, hsa.ln]; exact jin_nI (by omega) (by omega), ho.2.1, useV0 (k_put s1.1 (by simp; omega)) fun h2 _ _ ⟨s2, _⟩ => ?_⟩⟩
      rw [nI_1]
      refine ih (i + 1) h2 (by omega) (by omega) ?_ hQ
      have := s1.tr s2
      rw [nI_add, ixn_nI (by omega), hsa.ai, q1, show (cs[i]).toInt8.toInt32 = cs[i] from q2, List.append_assoc, ← List.take_succ_eq_append_getElem (by omega)] at this
      exact this
  exact t_X2_copy ⟨n + 1, loop _ n 0 h (by omega) (by omega) (by simpa using OutS.rf ho) fun h2 s2 => endV fun _ _ => s2⟩
