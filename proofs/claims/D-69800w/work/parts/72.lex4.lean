/-! signs of the component: signs, quoted texts -/
def sgW (src : Str) (p : Nat) : Str := if sTwo (sLk src p) (sLk src (p + 1)) then [sLk src p, sLk src (p + 1)] else [sLk src p]
def sgO (src : Str) (p : Nat) : Bool := sTwo (sLk src p) (sLk src (p + 1)) || sSigns.contains (sLk src p)
theorem two_lt {src : Str} {p : Nat} (h : sTwo (sLk src p) (sLk src (p + 1)) = true) : p + 2 ≤ src.length := by
  rcases Nat.lt_or_ge (p + 1) src.length with q | q
  · omega
  · rw [lk_out q] at h
    simp only [sTwo] at h
    exact absurd h (by simp)
theorem k_sign {D : JD} {d : Nat} {h : JH} {s a base p fm : Nat} {src : Str} {x : Int32} (hs : SgB h s a base src p) (hx : x = sLk src p) (hp : p < src.length) (hfr : jfi h 87 s = nI (base + fm)) (hfm : fm ≤ 100000) :
    cX18_sign D (d + 8) s x h (pV D h (fun h' => sgO src p = true ∧ SgB h' s a base src (p + (sgW src p).length) ∧ StR h' (jfr h' 88 s) (sgW src p) ∧ jfr h' 86 s = jcs D 355 ∧ (∀ F, F ≠ 85 → jfi h' F s = jfi h F s) ∧ SgG h h' s 0 0)
      (fun y h' => sgO src p = false ∧ FtR h' y (sStr "42601") (nI (fm + 1)) ∧ SgG h h' s 1 8)) := by
  refine JW.inv fun hI => t_X18_sign ⟨hs.2.1, ?_⟩
  have hsl := hs.lt hI
  rintro h1 rfl
  have hs1 : SgB (wfr h 86 s (jcs D 355)) s a base src p := hs.fr (by decide)
  have sf1 : SgG h (wfr h 86 s (jcs D 355)) s 0 0 := SgG.rf' (by decide) (by decide)
  have fin : ∀ (j : Nat), j < 345 → jcon j = sgW src p → sgO src p = true → W_X18_sign_311 D (d + 7) (pV D h (fun h' => sgO src p = true ∧ SgB h' s a base src (p + (sgW src p).length) ∧ StR h' (jfr h' 88 s) (sgW src p) ∧ jfr h' 86 s = jcs D 355 ∧ (∀ F, F ≠ 85 → jfi h' F s = jfi h F s) ∧ SgG h h' s 0 0)
      (fun y h' => sgO src p = false ∧ FtR h' y (sStr "42601") (nI (fm + 1)) ∧ SgG h h' s 1 8)) s (wfr (wfr h 86 s (jcs D 355)) 88 s (jcs D j)) := by
    intro j hj hc hok
    have hst := k_const hI hj
    rw [hc] at hst
    have hjs : jcs D j ≠ s := fun e => by have := hst.2.1; rw [e, hs.1] at this; omega
    have hja : jfr h 75 (jcs D j) ≠ s := fun e => by have := hst.2.2.2.2.1; rw [e, hs.1] at this; omega
    have hst2 : StR (wfr (wfr h 86 s (jcs D 355)) 88 s (jcs D j)) (jcs D j) (sgW src p) := hst.of ((same_wfr hjs).tr (same_wfr hjs)) ((same_wfr hja).tr (same_wfr hja))
    have e88 : jfr (wfr (wfr h 86 s (jcs D 355)) 88 s (jcs D j)) 88 s = jcs D j := by simp only [jkd_wfi, jln_wfi, jfi_wfi, jfl_wfi, jfr_wfi, jai_wfi, jal_wfi, jar_wfi, jsz_wfi, jus_wfi, jkd_wfl, jln_wfl, jfi_wfl, jfl_wfl, jfr_wfl, jai_wfl, jal_wfl, jar_wfl, jsz_wfl, jus_wfl, jkd_wfr, jln_wfr, jfi_wfr, jfl_wfr, jfr_wfr, jai_wfr, jal_wfr, jar_wfr, jsz_wfr, jus_wfr, jkd_wai, jln_wai, jfi_wai, jfl_wai, jfr_wai, jai_wai, jal_wai, jar_wai, jsz_wai, jus_wai, jkd_wal, jln_wal, jfi_wal, jfl_wal, jfr_wal, jai_wal, jal_wal, jar_wal, jsz_wal, jus_wal, jkd_war, jln_war, jfi_war, jfl_war, jfr_war, jai_war, jal_war, jar_war, jsz_war, jus_war, jkd_nwo, jln_nwo, jfi_nwo, jfl_nwo, jfr_nwo, jai_nwo, jal_nwo, jar_nwo, jsz_nwo, jus_nwo, jkd_nwa, jln_nwa, jfi_nwa, jfl_nwa, jfr_nwa, jai_nwa, jal_nwa, jar_nwa, jsz_nwa, jus_nwa, jkd_cpa, jln_cpa, jfi_cpa, jfl_cpa, jfr_cpa, jai_cpa, jal_cpa, jar_cpa, jsz_cpa, jus_cpa, and_self, if_true]
    have hlen : p + (sgW src p).length ≤ src.length := by
      unfold sgW
      by_cases w : sTwo (sLk src p) (sLk src (p + 1)) = true
      · rw [if_pos w]; exact two_lt w
      · rw [if_neg w]; exact hp
    have hs2 : SgB (wfr (wfr h 86 s (jcs D 355)) 88 s (jcs D j)) s a base src p := hs1.fr (by decide)
    refine ⟨hs.2.1, by rw [e88]; exact hst.1, ?_⟩
    rw [e88]
    refine useI0 (k_length hst2) ?_
    rintro v h2 _ _ ⟨rfl, rfl⟩
    rintro h3 rfl
    rw [hs2.2.2.2.2.2.2.2.2.2.2.1, nI_add, show base + p + (sgW src p).length = base + (p + (sgW src p).length) by omega]
    refine endV fun _ _ => ⟨hok, hs2.at hlen, ?_, ?_, fun F hF => by simp only [jkd_wfi, jln_wfi, jfi_wfi, jfl_wfi, jfr_wfi, jai_wfi, jal_wfi, jar_wfi, jsz_wfi, jus_wfi, jkd_wfl, jln_wfl, jfi_wfl, jfl_wfl, jfr_wfl, jai_wfl, jal_wfl, jar_wfl, jsz_wfl, jus_wfl, jkd_wfr, jln_wfr, jfi_wfr, jfl_wfr, jfr_wfr, jai_wfr, jal_wfr, jar_wfr, jsz_wfr, jus_wfr, jkd_wai, jln_wai, jfi_wai, jfl_wai, jfr_wai, jai_wai, jal_wai, jar_wai, jsz_wai, jus_wai, jkd_wal, jln_wal, jfi_wal, jfl_wal, jfr_wal, jai_wal, jal_wal, jar_wal, jsz_wal, jus_wal, jkd_war, jln_war, jfi_war, jfl_war, jfr_war, jai_war, jal_war, jar_war, jsz_war, jus_war, jkd_nwo, jln_nwo, jfi_nwo, jfl_nwo, jfr_nwo, jai_nwo, jal_nwo, jar_nwo, jsz_nwo, jus_nwo, jkd_nwa, jln_nwa, jfi_nwa, jfl_nwa, jfr_nwa, jai_nwa, jal_nwa, jar_nwa, jsz_nwa, jus_nwa, jkd_cpa, jln_cpa, jfi_cpa, jfl_cpa, jfr_cpa, jai_cpa, jal_cpa, jar_cpa, jsz_cpa, jus_cpa, hF, false_and, if_false], (sf1.tr ((SgG.rf' (by decide) (by decide)).tr (SgG.fi _)))⟩
    · rw [jfr_wfi, e88]; exact hst2.of (same_wfi hjs) (same_wfi (by simp only [jkd_wfi, jln_wfi, jfi_wfi, jfl_wfi, jfr_wfi, jai_wfi, jal_wfi, jar_wfi, jsz_wfi, jus_wfi, jkd_wfl, jln_wfl, jfi_wfl, jfl_wfl, jfr_wfl, jai_wfl, jal_wfl, jar_wfl, jsz_wfl, jus_wfl, jkd_wfr, jln_wfr, jfi_wfr, jfl_wfr, jfr_wfr, jai_wfr, jal_wfr, jar_wfr, jsz_wfr, jus_wfr, jkd_wai, jln_wai, jfi_wai, jfl_wai, jfr_wai, jai_wai, jal_wai, jar_wai, jsz_wai, jus_wai, jkd_wal, jln_wal, jfi_wal, jfl_wal, jfr_wal, jai_wal, jal_wal, jar_wal, jsz_wal, jus_wal, jkd_war, jln_war, jfi_war, jfl_war, jfr_war, jai_war, jal_war, jar_war, jsz_war, jus_war, jkd_nwo, jln_nwo, jfi_nwo, jfl_nwo, jfr_nwo, jai_nwo, jal_nwo, jar_nwo, jsz_nwo, jus_nwo, jkd_nwa, jln_nwa, jfi_nwa, jfl_nwa, jfr_nwa, jai_nwa, jal_nwa, jar_nwa, jsz_nwa, jus_nwa, jkd_cpa, jln_cpa, jfi_cpa, jfl_cpa, jfr_cpa, jai_cpa, jal_cpa, jar_cpa, jsz_cpa, jus_cpa, Nat.reduceEqDiff, false_and, if_false]; exact hja))
    · simp only [jkd_wfi, jln_wfi, jfi_wfi, jfl_wfi, jfr_wfi, jai_wfi, jal_wfi, jar_wfi, jsz_wfi, jus_wfi, jkd_wfl, jln_wfl, jfi_wfl, jfl_wfl, jfr_wfl, jai_wfl, jal_wfl, jar_wfl, jsz_wfl, jus_wfl, jkd_wfr, jln_wfr, jfi_wfr, jfl_wfr, jfr_wfr, jai_wfr, jal_wfr, jar_wfr, jsz_wfr, jus_wfr, jkd_wai, jln_wai, jfi_wai, jfl_wai, jfr_wai, jai_wai, jal_wai, jar_wai, jsz_wai, jus_wai, jkd_wal, jln_wal, jfi_wal, jfl_wal, jfr_wal, jai_wal, jal_wal, jar_wal, jsz_wal, jus_wal, jkd_war, jln_war, jfi_war, jfl_war, jfr_war, jai_war, jal_war, jar_war, jsz_war, jus_war, jkd_nwo, jln_nwo, jfi_nwo, jfl_nwo, jfr_nwo, jai_nwo, jal_nwo, jar_nwo, jsz_nwo, jus_nwo, jkd_nwa, jln_nwa, jfi_nwa, jfl_nwa, jfr_nwa, jai_nwa, jal_nwa, jar_nwa, jsz_nwa, jus_nwa, jkd_cpa, jln_cpa, jfi_cpa, jfl_cpa, jfr_cpa, jai_cpa, jal_cpa, jar_cpa, jsz_cpa, jus_cpa, and_self, if_true, Nat.reduceEqDiff, false_and, if_false]
  have one : ∀ (j : Nat) (c : Int32), j < 345 → jcon j = [c] → x = c → (∀ e, sTwo c e = false) → sSigns.contains c = true → W_X18_sign_311 D (d + 7) (pV D h (fun h' => sgO src p = true ∧ SgB h' s a base src (p + (sgW src p).length) ∧ StR h' (jfr h' 88 s) (sgW src p) ∧ jfr h' 86 s = jcs D 355 ∧ (∀ F, F ≠ 85 → jfi h' F s = jfi h F s) ∧ SgG h h' s 0 0)
      (fun y h' => sgO src p = false ∧ FtR h' y (sStr "42601") (nI (fm + 1)) ∧ SgG h h' s 1 8)) s (wfr (wfr h 86 s (jcs D 355)) 88 s (jcs D j)) := by
    intro j c hj hc hxc h2 h3
    have e : sLk src p = c := hx.symm.trans hxc
    refine fin j hj ?_ ?_
    · rw [hc]; unfold sgW; rw [e, h2, if_neg (by decide)]
    · unfold sgO; rw [e, h3]; simp
  have bad : sgO src p = false → cX18_broken D (d + 7) s (wfr h 86 s (jcs D 355)) (pR D (wfr h 86 s (jcs D 355)) 9 (fun v h2 => v ≠ 0 ∧ (pV D h (fun h' => sgO src p = true ∧ SgB h' s a base src (p + (sgW src p).length) ∧ StR h' (jfr h' 88 s) (sgW src p) ∧ jfr h' 86 s = jcs D 355 ∧ (∀ F, F ≠ 85 → jfi h' F s = jfi h F s) ∧ SgG h h' s 0 0)
      (fun y h' => sgO src p = false ∧ FtR h' y (sStr "42601") (nI (fm + 1)) ∧ SgG h h' s 1 8)) (.inr v) h2) (jth (pV D h (fun h' => sgO src p = true ∧ SgB h' s a base src (p + (sgW src p).length) ∧ StR h' (jfr h' 88 s) (sgW src p) ∧ jfr h' 86 s = jcs D 355 ∧ (∀ F, F ≠ 85 → jfi h' F s = jfi h F s) ∧ SgG h h' s 0 0)
      (fun y h' => sgO src p = false ∧ FtR h' y (sStr "42601") (nI (fm + 1)) ∧ SgG h h' s 1 8)))) := by
    intro hb
    refine useR0 (k_broken hs1 hfr hfm) ?_
    rintro v h2 _ _ ⟨f1, f2⟩
    exact ⟨f1.1, fun _ _ => ⟨hb, f1, (sf1.tr f2).mono (by omega) (by omega)⟩⟩
  refine useI0 (k_look (k := 1) hs1 rfl (by decide)) ?_
  rintro v h2 _ _ ⟨rfl, rfl⟩
  refine ⟨fun z => ?_, fun z => ?_, fun z => ?_, fun z => ?_, fun z => ?_, fun z => ?_, fun z => ?_, fun z => ?_, fun z => ?_, fun z => ?_, fun z => ?_, fun z => ?_, fun z => ?_, fun z => ?_, ?_⟩
  · rintro h3 rfl; exact one 27 37 (by decide) (by decide +kernel) z (fun e => by simp [sTwo]) (by decide +kernel)
  · rintro h3 rfl; exact one 18 40 (by decide) (by decide +kernel) z (fun e => by simp [sTwo]) (by decide +kernel)
  · rintro h3 rfl; exact one 19 41 (by decide) (by decide +kernel) z (fun e => by simp [sTwo]) (by decide +kernel)
  · rintro h3 rfl; exact one 23 42 (by decide) (by decide +kernel) z (fun e => by simp [sTwo]) (by decide +kernel)
  · rintro h3 rfl; exact one 24 43 (by decide) (by decide +kernel) z (fun e => by simp [sTwo]) (by decide +kernel)
  · rintro h3 rfl; exact one 20 44 (by decide) (by decide +kernel) z (fun e => by simp [sTwo]) (by decide +kernel)
  · rintro h3 rfl; exact one 25 45 (by decide) (by decide +kernel) z (fun e => by simp [sTwo]) (by decide +kernel)
  · rintro h3 rfl; exact one 22 46 (by decide) (by decide +kernel) z (fun e => by simp [sTwo]) (by decide +kernel)
  · rintro h3 rfl; exact one 26 47 (by decide) (by decide +kernel) z (fun e => by simp [sTwo]) (by decide +kernel)
  · rintro h3 rfl; exact one 21 59 (by decide) (by decide +kernel) z (fun e => by simp [sTwo]) (by decide +kernel)
  · have e : sLk src p = 60 := hx.symm.trans z
    refine ⟨fun z1 => ⟨fun z2 => ⟨hs.2.1, ?_⟩, fun z2 => ⟨hs.2.1, ?_⟩⟩, fun z1 => ⟨hs.2.1, ?_⟩⟩
    · rintro h3 rfl
      have h2 : sTwo 60 (sLk src (p + 1)) = false := by simp [sTwo, z1, z2]
      refine fin 14 (by decide) ?_ ?_
      · unfold sgW; rw [e, h2, if_neg (by decide)]; decide +kernel
      · unfold sgO; rw [e, h2]; decide +kernel
    · rintro h3 rfl
      refine fin 13 (by decide) ?_ ?_
      · unfold sgW; rw [e, z2, if_pos (by decide)]; decide +kernel
      · unfold sgO; rw [e, z2]; decide +kernel
    · rintro h3 rfl
      refine fin 12 (by decide) ?_ ?_
      · unfold sgW; rw [e, z1, if_pos (by decide)]; decide +kernel
      · unfold sgO; rw [e, z1]; decide +kernel
  · rintro h3 rfl; exact one 28 61 (by decide) (by decide +kernel) z (fun e => by simp [sTwo]) (by decide +kernel)
  · have e : sLk src p = 62 := hx.symm.trans z
    refine ⟨fun z1 => ⟨hs.2.1, ?_⟩, fun z1 => ⟨hs.2.1, ?_⟩⟩
    · rintro h3 rfl
      have h2 : sTwo 62 (sLk src (p + 1)) = false := by simp [sTwo, z1]
      refine fin 16 (by decide) ?_ ?_
      · unfold sgW; rw [e, h2, if_neg (by decide)]; decide +kernel
      · unfold sgO; rw [e, h2]; decide +kernel
    · rintro h3 rfl
      refine fin 15 (by decide) ?_ ?_
      · unfold sgW; rw [e, z1, if_pos (by decide)]; decide +kernel
      · unfold sgO; rw [e, z1]; decide +kernel
  · have e : sLk src p = 124 := hx.symm.trans z
    refine ⟨fun z1 => ?_, fun z1 => bad ?_⟩
    · rintro h3 rfl
      refine fin 17 (by decide) ?_ ?_
      · unfold sgW; rw [e, z1, if_pos (by decide)]; decide +kernel
      · unfold sgO; rw [e, z1]; decide +kernel
    · have h2 : sTwo 124 (sLk src (p + 1)) = false := by simp [sTwo, z1]
      unfold sgO; rw [e, h2]; decide +kernel
  · intro n1 n2 n3 n4 n5 n6 n7 n8 n9 n10 n11 n12 n13 n14
    refine bad ?_
    rw [hx] at n1 n2 n3 n4 n5 n6 n7 n8 n9 n10 n11 n12 n13 n14
    have hsg : sSigns = [40, 41, 44, 46, 59, 42, 43, 45, 47, 37, 61, 60, 62] := by decide +kernel
    unfold sgO
    rw [hsg]
    simp [sTwo, n1, n2, n3, n4, n5, n6, n7, n8, n9, n10, n11, n12, n13, n14]
