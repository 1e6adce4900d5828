/-! the component: two texts become one -/
section
variable {D : JD} {h h' : JH} {d a b c T : Nat} {s u : Str}
/-- the cell c while it is filled: its characters stand in T -/
def JoS (D : JD) (h g : JH) (c T : Nat) : Prop := CelF h g c ∧ CelW D g c ∧ jfr g 67 c = T ∧ T ≠ 0
theorem JoS.ln {g : JH} (k : JoS D h g c T) : jln g T = 40 := by
  rcases k.2.1.2.2.2.2 with w | w
  · rw [k.2.2.1] at w; exact absurd w k.2.2.2
  · rw [← k.2.2.1]; exact w.2.1
theorem JoS.put {g : JH} {i : Nat} {x : Int32} (k : JoS D h g c T) (hx : jby x) : JoS D h (wai g (jfr g 67 c) i x) c T := by
  obtain ⟨k1, ⟨c1, c2, c3, c4, c5⟩, k3, k4⟩ := k
  refine ⟨k1.tr (CelF.ai _), ⟨c1, c2, c3, c4, ?_⟩, k3, k4⟩
  rcases c5 with w | w
  · exact Or.inl w
  · refine Or.inr ⟨w.1, w.2.1, fun j hj => ?_⟩
    simp only [jkd_wfi, jln_wfi, jfi_wfi, jfl_wfi, jfr_wfi, jai_wfi, jal_wfi, jar_wfi, jsz_wfi, jus_wfi, jkd_wfl, jln_wfl, jfi_wfl, jfl_wfl, jfr_wfl, jai_wfl, jal_wfl, jar_wfl, jsz_wfl, jus_wfl, jkd_wfr, jln_wfr, jfi_wfr, jfl_wfr, jfr_wfr, jai_wfr, jal_wfr, jar_wfr, jsz_wfr, jus_wfr, jkd_wai, jln_wai, jfi_wai, jfl_wai, jfr_wai, jai_wai, jal_wai, jar_wai, jsz_wai, jus_wai, jkd_wal, jln_wal, jfi_wal, jfl_wal, jfr_wal, jai_wal, jal_wal, jar_wal, jsz_wal, jus_wal, jkd_war, jln_war, jfi_war, jfl_war, jfr_war, jai_war, jal_war, jar_war, jsz_war, jus_war, jkd_nwo, jln_nwo, jfi_nwo, jfl_nwo, jfr_nwo, jai_nwo, jal_nwo, jar_nwo, jsz_nwo, jus_nwo, jkd_nwa, jln_nwa, jfi_nwa, jfl_nwa, jfr_nwa, jai_nwa, jal_nwa, jar_nwa, jsz_nwa, jus_nwa, jkd_cpa, jln_cpa, jfi_cpa, jfl_cpa, jfr_cpa, jai_cpa, jal_cpa, jar_cpa, jsz_cpa, jus_cpa]
    split
    · exact hx
    · exact w.2.2 j hj
theorem w_jo52 {Q : JO → JH → Prop} (hI : JInv D h) (ht : TX h) (hc : CelW D h c) (ka : Cel D h a (vTxt s)) (ha : a ≠ c) (hl : s.length + u.length ≤ 40) (hu : ∀ x ∈ u, jby x) (hQ : ∀ h', Cel D h' c (vTxt (s ++ u)) → CelF h h' c → Q (.inl (some (vR 8 c))) h') :
    ∀ f k g, s.length < f + k → k ≤ s.length → JoS D h g c T → (∀ j x, j < k → s[j]? = some x → jai g T j = x) → (∀ (j : Nat) x, u[j]? = some x → jai g T (s.length + j) = x) → L_X14_join_52 D d Q f c a (nI s.length) (nI u.length) (nI k) g
  | 0, k, g, h1, h2, _, _, _ => by exfalso; omega
  | f + 1, k, g, h1, h2, J, g1, g2 => by
    have kg := (ka.other hI ht J.1 ha hc).tx
    refine ⟨fun z => ?_, fun z => ?_⟩
    · rw [nI_leI (by omega) (by omega)] at z
      refine ⟨J.2.1.1, ?_⟩
      rintro h3 rfl h4 rfl h5 rfl
      obtain ⟨J1, ⟨c1, c2, c3, c4, c5⟩, J3, J4⟩ := J
      have e67 : jfr (wfi (wfr (wfi g 65 c 0) 64 c (jcs D 346)) 68 c (nI s.length + nI u.length)) 67 c = T := by
        show jfr (wfr (wfi g 65 c 0) 64 c (jcs D 346)) 67 c = T
        rw [jfr_wfr, if_neg fun z => absurd z.1 (by decide)]; exact J3
      refine hQ _ ⟨⟨c1, c2, c3, Or.inl ?_, ?_⟩, Or.inr ⟨?_, ?_, Or.inr (Or.inr ⟨s ++ u, rfl, ?_, by simp; omega, ?_, fun j x hj => ?_⟩)⟩⟩ (((J1.tr (CelF.fi _)).tr (CelF.ty _)).tr (CelF.fi _))
      · rw [jfi_wfi, if_neg fun z => absurd z.1 (by decide)]
        show jfi (wfi g 65 c 0) 65 c = 0
        rw [jfi_wfi, if_pos ⟨rfl, rfl⟩]
      · rw [e67]
        rw [J3] at c5
        exact c5
      · rw [jfi_wfi, if_neg fun z => absurd z.1 (by decide)]
        show jfi (wfi g 65 c 0) 65 c = 0
        rw [jfi_wfi, if_pos ⟨rfl, rfl⟩]
      · show jfr (wfr (wfi g 65 c 0) 64 c (jcs D 346)) 64 c = tyc D 25
        rw [jfr_wfr, if_pos ⟨rfl, rfl⟩]; rfl
      · rw [e67]; exact J4
      · rw [jfi_wfi, if_pos ⟨rfl, rfl⟩, nI_add, List.length_append]
      · rw [e67]
        show jai g T j = x ∧ jby x
        by_cases jl : j < s.length
        · rw [List.getElem?_append_left jl] at hj
          exact ⟨g1 j x (by omega) hj, (kg.2.2.2.2.2 j x hj).2⟩
        · rw [List.getElem?_append_right (by omega)] at hj
          refine ⟨?_, hu x (List.mem_of_getElem? hj)⟩
          have := g2 _ x hj
          rwa [show s.length + (j - s.length) = j by omega] at this
    · rw [nI_leI (by omega) (by omega)] at z
      have kl : k < s.length := by omega
      have ek : s[k]? = some s[k] := List.getElem?_eq_getElem kl
      have vk := kg.2.2.2.2.2 k _ ek
      refine ⟨J.2.1.1, kg.1, kg.2.1, by rw [kg.2.2.1]; exact jin_nI (by omega) (by decide), by rw [J.2.2.1]; exact J.2.2.2, by rw [J.2.2.1, J.ln]; exact jin_nI (by omega) (by decide), ?_⟩
      rw [ixn_nI (by omega), vk.1, show (Int32.toInt8 s[k]).toInt32 = s[k] from vk.2, nI_1]
      rintro h3 rfl
      refine w_jo52 hI ht hc ka ha hl hu hQ f (k + 1) _ (by omega) (by omega) (J.put vk.2) (fun j x hj hx => ?_) fun j x hx => ?_
      · rw [J.2.2.1]
        simp only [jkd_wfi, jln_wfi, jfi_wfi, jfl_wfi, jfr_wfi, jai_wfi, jal_wfi, jar_wfi, jsz_wfi, jus_wfi, jkd_wfl, jln_wfl, jfi_wfl, jfl_wfl, jfr_wfl, jai_wfl, jal_wfl, jar_wfl, jsz_wfl, jus_wfl, jkd_wfr, jln_wfr, jfi_wfr, jfl_wfr, jfr_wfr, jai_wfr, jal_wfr, jar_wfr, jsz_wfr, jus_wfr, jkd_wai, jln_wai, jfi_wai, jfl_wai, jfr_wai, jai_wai, jal_wai, jar_wai, jsz_wai, jus_wai, jkd_wal, jln_wal, jfi_wal, jfl_wal, jfr_wal, jai_wal, jal_wal, jar_wal, jsz_wal, jus_wal, jkd_war, jln_war, jfi_war, jfl_war, jfr_war, jai_war, jal_war, jar_war, jsz_war, jus_war, jkd_nwo, jln_nwo, jfi_nwo, jfl_nwo, jfr_nwo, jai_nwo, jal_nwo, jar_nwo, jsz_nwo, jus_nwo, jkd_nwa, jln_nwa, jfi_nwa, jfl_nwa, jfr_nwa, jai_nwa, jal_nwa, jar_nwa, jsz_nwa, jus_nwa, jkd_cpa, jln_cpa, jfi_cpa, jfl_cpa, jfr_cpa, jai_cpa, jal_cpa, jar_cpa, jsz_cpa, jus_cpa, true_and]
        by_cases ej : j = k
        · rw [if_pos ej]
          rw [ej, ek] at hx
          cases hx; rfl
        · rw [if_neg ej]
          exact g1 j x (by omega) hx
      · rw [J.2.2.1]
        simp only [jkd_wfi, jln_wfi, jfi_wfi, jfl_wfi, jfr_wfi, jai_wfi, jal_wfi, jar_wfi, jsz_wfi, jus_wfi, jkd_wfl, jln_wfl, jfi_wfl, jfl_wfl, jfr_wfl, jai_wfl, jal_wfl, jar_wfl, jsz_wfl, jus_wfl, jkd_wfr, jln_wfr, jfi_wfr, jfl_wfr, jfr_wfr, jai_wfr, jal_wfr, jar_wfr, jsz_wfr, jus_wfr, jkd_wai, jln_wai, jfi_wai, jfl_wai, jfr_wai, jai_wai, jal_wai, jar_wai, jsz_wai, jus_wai, jkd_wal, jln_wal, jfi_wal, jfl_wal, jfr_wal, jai_wal, jal_wal, jar_wal, jsz_wal, jus_wal, jkd_war, jln_war, jfi_war, jfl_war, jfr_war, jai_war, jal_war, jar_war, jsz_war, jus_war, jkd_nwo, jln_nwo, jfi_nwo, jfl_nwo, jfr_nwo, jai_nwo, jal_nwo, jar_nwo, jsz_nwo, jus_nwo, jkd_nwa, jln_nwa, jfi_nwa, jfl_nwa, jfr_nwa, jai_nwa, jal_nwa, jar_nwa, jsz_nwa, jus_nwa, jkd_cpa, jln_cpa, jfi_cpa, jfl_cpa, jfr_cpa, jai_cpa, jal_cpa, jar_cpa, jsz_cpa, jus_cpa, true_and]
        rw [if_neg (by omega)]
        exact g2 j x hx
theorem w_jo22 {Q : JO → JH → Prop} (hI : JInv D h) (ht : TX h) (hc : CelW D h c) (ka : Cel D h a (vTxt s)) (kb : Cel D h b (vTxt u)) (ha : a ≠ c) (hb : b ≠ c) (hl : s.length + u.length ≤ 40) (hQ : ∀ h', Cel D h' c (vTxt (s ++ u)) → CelF h h' c → Q (.inl (some (vR 8 c))) h') :
    ∀ f k g, k < f → k ≤ u.length → JoS D h g c T → (∀ (j : Nat) x, k ≤ j → u[j]? = some x → jai g T (s.length + j) = x) → L_X14_join_22 D d Q f c a b (nI s.length) (nI u.length) (nI k - 1) g
  | 0, k, g, h1, _, _, _ => by exfalso; omega
  | f + 1, k, g, h1, h2, J, g2 => by
    have kg := (kb.other hI ht J.1 hb hc).tx
    refine ⟨fun z => ?_, fun z => ?_⟩
    · have k0 : k = 0 := by
        cases k with
        | zero => rfl
        | succ k =>
          rw [show nI (k + 1) - 1 = nI k by rw [← nI_1, Int32.add_sub_cancel]] at z
          exact absurd z (lt_nI (by omega))
      refine ⟨s.length + 1, w_jo52 hI ht hc ka ha hl (fun x hx => ?_) hQ (s.length + 1) 0 g (by omega) (by omega) J (fun j x hj => by omega) fun j x hx => g2 j x (by omega) hx⟩
      obtain ⟨j, hj, rfl⟩ := List.mem_iff_getElem.mp hx
      exact (kg.2.2.2.2.2 j _ (List.getElem?_eq_getElem hj)).2
    · cases k with
      | zero => exact absurd (by decide) z
      | succ k =>
        have e1 : nI (k + 1) - 1 = nI k := by rw [← nI_1, Int32.add_sub_cancel]
        have kl : k < u.length := by omega
        have ek : u[k]? = some u[k] := List.getElem?_eq_getElem kl
        have vk := kg.2.2.2.2.2 k _ ek
        rw [e1, nI_add, ixn_nI (by omega), ixn_nI (by omega), vk.1, show (Int32.toInt8 u[k]).toInt32 = u[k] from vk.2]
        refine ⟨J.2.1.1, kg.1, kg.2.1, by rw [kg.2.2.1]; exact jin_nI (by omega) (by decide), by rw [J.2.2.1]; exact J.2.2.2, by rw [J.2.2.1, J.ln]; exact jin_nI (by omega) (by decide), ?_⟩
        rintro h3 rfl
        rw [show nI k + -1 = nI k - 1 by rw [Int32.sub_eq_add_neg]]
        refine w_jo22 hI ht hc ka kb ha hb hl hQ f k _ (by omega) (by omega) (J.put vk.2) fun j x hj hx => ?_
        rw [J.2.2.1]
        simp only [jkd_wfi, jln_wfi, jfi_wfi, jfl_wfi, jfr_wfi, jai_wfi, jal_wfi, jar_wfi, jsz_wfi, jus_wfi, jkd_wfl, jln_wfl, jfi_wfl, jfl_wfl, jfr_wfl, jai_wfl, jal_wfl, jar_wfl, jsz_wfl, jus_wfl, jkd_wfr, jln_wfr, jfi_wfr, jfl_wfr, jfr_wfr, jai_wfr, jal_wfr, jar_wfr, jsz_wfr, jus_wfr, jkd_wai, jln_wai, jfi_wai, jfl_wai, jfr_wai, jai_wai, jal_wai, jar_wai, jsz_wai, jus_wai, jkd_wal, jln_wal, jfi_wal, jfl_wal, jfr_wal, jai_wal, jal_wal, jar_wal, jsz_wal, jus_wal, jkd_war, jln_war, jfi_war, jfl_war, jfr_war, jai_war, jal_war, jar_war, jsz_war, jus_war, jkd_nwo, jln_nwo, jfi_nwo, jfl_nwo, jfr_nwo, jai_nwo, jal_nwo, jar_nwo, jsz_nwo, jus_nwo, jkd_nwa, jln_nwa, jfi_nwa, jfl_nwa, jfr_nwa, jai_nwa, jal_nwa, jar_nwa, jsz_nwa, jus_nwa, jkd_cpa, jln_cpa, jfi_cpa, jfl_cpa, jfr_cpa, jai_cpa, jal_cpa, jar_cpa, jsz_cpa, jus_cpa, true_and]
        by_cases ej : j = k
        · rw [if_pos (by omega)]
          rw [ej, ek] at hx
          cases hx; rfl
        · rw [if_neg (by omega)]
          exact g2 j x (by omega) hx
theorem w_cJoin (ht : TX h) (hc : CelW D h c) (ka : Cel D h a (vTxt s)) (kb : Cel D h b (vTxt u)) (ha : a ≠ c) (hb : b ≠ c) (hl : s.length + u.length ≤ 40) (hd : 2 ≤ d) : cX14_join D d c a b h (pR D h 8 (fun v h' => v = c ∧ Cel D h' c (vTxt (s ++ u)) ∧ CelF h h' c) no) := by
  obtain ⟨e, rfl, he⟩ := dsucc hd
  refine JW.inv fun hI => t_X14_join ⟨ka.1.1, kb.1.1, hc.1, JW.up (n := 1) (fun z => useR0 (k_cRoom (d := z) hc) ?_) he⟩
  rintro v h3 hI3 _ ⟨v1, v2, v3, v4, _⟩
  rw [ka.tx.2.2.2.2.1, kb.tx.2.2.2.2.1]
  refine ⟨u.length + 1, w_jo22 (T := v) hI ht hc ka kb ha hb hl (fun h' k1 k2 => endR fun _ _ _ => ⟨rfl, k1, k2⟩) (u.length + 1) u.length h3 (by omega) (by omega) ⟨v4, v3, v1.symm, v2⟩ fun j x hj hx => ?_⟩
  have := (List.getElem?_eq_some_iff.mp hx).1
  omega
end
