/-! the component: rows of cells that are made when they are first used -/
section
variable {D : JD} {h h' h'' h0 h1 h2 : JH} {d ka kc nn RA k j q c t u r : Nat}
theorem JInv.arl (hI : JInv D h) {a i : Nat} : jar h a i ≤ jsz h := by
  rcases hI.2.2.2.1 a i with e | e
  · rw [e]; exact Nat.zero_le _
  · exact hI.lt (sbt_ne0 e)
theorem k_cInit' (h0 : c ≠ 0) : cX14_init D (d + 1) c h (pV D h (fun h' => h' = wfi (wfr h 64 c (jcs D 345)) 65 c 1) no) := by
  refine t_X14_init ⟨h0, ?_⟩
  rintro h1 rfl h2 rfl
  exact endV fun _ _ => rfl
/-- the row is laid behind RA at k, j of its cells are made -/
def RwI (ka kc nn : Nat) (h0 : JH) (RA k j : Nat) (h1 : JH) : Prop :=
  jsz h1 = jsz h0 + 1 + j ∧ (∀ q, q ≤ jsz h0 → q ≠ RA → same h0 h1 q) ∧ (jkd h1 RA = jkd h0 RA ∧ jln h1 RA = jln h0 RA) ∧ (∀ i, jar h1 RA i = if i = k then jsz h0 + 1 else jar h0 RA i) ∧
  (jkd h1 (jsz h0 + 1) = ka ∧ jln h1 (jsz h0 + 1) = nn) ∧ (∀ i, jar h1 (jsz h0 + 1) i = if i < j then jsz h0 + 2 + i else 0) ∧
  (∀ i, i < j → jkd h1 (jsz h0 + 2 + i) = kc ∧ jfi h1 65 (jsz h0 + 2 + i) = 1) ∧ (∀ F q, F ≠ 64 → jfr h1 F q = jfr h0 F q) ∧ Sp h0 h1 (1 + 2 * j) (nn + 45 * j) ∧ (∀ q, jkd h0 q ≠ 0 → jkd h1 q = jkd h0 q)
theorem RwI.start (hI : JInv D h) (hk : (ckd ka || vkd ka) = false) (hR : RA ≤ jsz h) : RwI ka kc nn h RA k 0 (war (nwa h ka nn) RA k (jsz h + 1)) := by
  have ne : RA ≠ jsz h + 1 := by omega
  refine ⟨rfl, fun q q1 q2 => (same_nwa q1).tr (same_war q2), ⟨?_, ?_⟩, fun i => ?_, ⟨?_, ?_⟩, fun i => ?_, fun i hi => by omega, fun F q _ => rfl, ?_, fun q hq => ?_⟩
  · rw [jkd_war, jkd_nwa, if_neg ne]
  · rw [jln_war, jln_nwa, if_neg ne]
  · rw [jar_war, jar_nwa]
    by_cases e : i = k
    · rw [if_pos e, if_pos ⟨rfl, e⟩]
    · rw [if_neg e, if_neg (fun z => e z.2)]
  · rw [jkd_war, jkd_nwa, if_pos rfl]
  · rw [jln_war, jln_nwa, if_pos rfl]
  · rw [jar_war, if_neg (fun z => ne z.1.symm), jar_nwa, if_neg (Nat.not_lt_zero _)]
    exact ((hI.2.2.2.2.1 (jsz h + 1) (Nat.lt_succ_self _)).2 i).2.2
  · exact ((Sp.nA hk).tr Sp.ar).mono (by omega) (by omega)
  · rw [jkd_war, jkd_nwa]
    have := hI.lt hq
    rw [if_neg (by omega)]
theorem RwI.step (k1 : RwI ka kc nn h0 RA k j h1) (hI : JInv D h0) (hR : RA ≤ jsz h0) : RwI ka kc nn h0 RA k (j + 1) (war (wfi (wfr (nwo h1 kc 5) 64 (jsz h1 + 1) t) 65 (jsz h1 + 1) 1) (jsz h0 + 1) j (jsz h1 + 1)) := by
  obtain ⟨a1, a2, ⟨a3, a4⟩, a5, ⟨a6, a7⟩, a8, a9, a10, a11, a12⟩ := k1
  have ec : jsz h1 + 1 = jsz h0 + 2 + j := by omega
  rw [ec]
  have ekd : ∀ q, jkd (war (wfi (wfr (nwo h1 kc 5) 64 (jsz h0 + 2 + j) t) 65 (jsz h0 + 2 + j) 1) (jsz h0 + 1) j (jsz h0 + 2 + j)) q = if q = jsz h0 + 2 + j then kc else jkd h1 q := fun q => by
    rw [← ec]; rfl
  have ear : ∀ q i, jar (war (wfi (wfr (nwo h1 kc 5) 64 (jsz h0 + 2 + j) t) 65 (jsz h0 + 2 + j) 1) (jsz h0 + 1) j (jsz h0 + 2 + j)) q i = if q = jsz h0 + 1 ∧ i = j then jsz h0 + 2 + j else jar h1 q i := fun q i => rfl
  have eln : ∀ q, jln (war (wfi (wfr (nwo h1 kc 5) 64 (jsz h0 + 2 + j) t) 65 (jsz h0 + 2 + j) 1) (jsz h0 + 1) j (jsz h0 + 2 + j)) q = jln h1 q := fun q => rfl
  have efi : ∀ F q, jfi (war (wfi (wfr (nwo h1 kc 5) 64 (jsz h0 + 2 + j) t) 65 (jsz h0 + 2 + j) 1) (jsz h0 + 1) j (jsz h0 + 2 + j)) F q = if F = 65 ∧ q = jsz h0 + 2 + j then 1 else jfi h1 F q := fun F q => rfl
  have efr : ∀ F q, jfr (war (wfi (wfr (nwo h1 kc 5) 64 (jsz h0 + 2 + j) t) 65 (jsz h0 + 2 + j) 1) (jsz h0 + 1) j (jsz h0 + 2 + j)) F q = if F = 64 ∧ q = jsz h0 + 2 + j then t else jfr h1 F q := fun F q => rfl
  refine ⟨?_, fun q q1 q2 => (a2 q q1 q2).tr ?_, ⟨?_, ?_⟩, fun i => ?_, ⟨?_, ?_⟩, fun i => ?_, fun i hi => ?_, fun F q hF => ?_, ?_, fun q hq => ?_⟩
  · show jsz h1 + 1 = _
    omega
  · refine ((same_nwo (by omega)).tr (same_wfr (by omega))).tr ((same_wfi (by omega)).tr (same_war (by omega)))
  · rw [ekd, if_neg (by omega)]; exact a3
  · rw [eln]; exact a4
  · rw [ear, if_neg (by omega)]; exact a5 i
  · rw [ekd, if_neg (by omega)]; exact a6
  · rw [eln]; exact a7
  · rw [ear, a8]
    by_cases e : i = j
    · rw [if_pos ⟨rfl, e⟩, if_pos (by omega), e]
    · rw [if_neg (fun z => e z.2)]
      by_cases l : i < j
      · rw [if_pos l, if_pos (by omega)]
      · rw [if_neg l, if_neg (by omega)]
  · rw [ekd, efi]
    by_cases e : i = j
    · rw [e, if_pos rfl, if_pos ⟨rfl, rfl⟩]; exact ⟨rfl, rfl⟩
    · rw [if_neg (by omega), if_neg (by omega)]; exact a9 i (by omega)
  · rw [efr, if_neg (fun z => hF z.1)]; exact a10 F q hF
  · have := a11.tr (((Sp.nC (h := h1) (k := kc) (n := 5)).tr (Sp.fr (F := 64) (r := jsz h0 + 2 + j) (v := t) (Or.inl ⟨by decide, by decide⟩))).tr ((Sp.fi (F := 65) (r := jsz h0 + 2 + j) (v := 1)).tr (Sp.ar (r := jsz h0 + 1) (i := j) (v := jsz h0 + 2 + j))))
    exact this.mono (by omega) (by omega)
  · have := hI.lt hq
    rw [ekd, if_neg (by omega)]; exact a12 q hq
/-- the row is whole -/
theorem RwI.ot (k1 : RwI ka kc nn h0 RA k j h1) (hI : JInv D h0) (hR : RA ≤ jsz h0) (ho : OT h0) (hk : okd ka = true) (hr : okd (jkd h0 RA) = true) (hc : okd kc = false) (hI1 : JInv D h1) : OT h1 := by
  obtain ⟨a1, a2, ⟨a3, a4⟩, a5, ⟨a6, a7⟩, a8, a9, a10, a11, a12⟩ := k1
  refine ⟨?_, fun a b => by rw [a10 45 _ (by decide), a10 45 _ (by decide)]; exact ho.2 a b⟩
  -- what each array holds
  have key : ∀ a i, okd (jkd h1 a) = true → jar h1 a i ≠ 0 → (a ≤ jsz h0 ∧ okd (jkd h0 a) = true ∧ jar h0 a i = jar h1 a i ∧ jar h1 a i ≤ jsz h0) ∨ (a = RA ∧ i = k ∧ jar h1 a i = jsz h0 + 1) ∨ (a = jsz h0 + 1 ∧ jar h1 a i = jsz h0 + 2 + i) := fun a i ha hn => by
    have al := hI1.lt (fun e => by rw [e] at ha; cases ha)
    by_cases e1 : a ≤ jsz h0
    · by_cases e2 : a = RA
      · subst e2
        rw [a5] at hn ⊢
        by_cases e3 : i = k
        · rw [if_pos e3]; exact Or.inr (Or.inl ⟨rfl, e3, rfl⟩)
        · rw [if_neg e3]; exact Or.inl ⟨e1, hr, rfl, hI.arl⟩
      · have s := a2 a e1 e2
        rw [s.kd] at ha
        rw [s.ar]
        exact Or.inl ⟨e1, ha, rfl, hI.arl⟩
    · by_cases e2 : a = jsz h0 + 1
      · refine Or.inr (Or.inr ⟨e2, ?_⟩)
        rw [e2, a8] at hn ⊢
        by_cases l : i < j
        · rw [if_pos l]
        · rw [if_neg l] at hn; exact absurd rfl hn
      · exfalso
        obtain ⟨i', hi'⟩ : ∃ i', a = jsz h0 + 2 + i' := ⟨a - (jsz h0 + 2), by omega⟩
        have := (a9 i' (by omega)).1
        rw [hi', this, hc] at ha
        cases ha
  intro a b i i' ha hb e hn
  have ka := key a i ha hn
  have kb := key b i' hb (by rw [← e]; exact hn)
  rcases ka with ⟨p1, p2, p3, p4⟩ | ⟨p1, p2, p3⟩ | ⟨p1, p2⟩
  · rcases kb with ⟨q1, q2, q3, q4⟩ | ⟨q1, q2, q3⟩ | ⟨q1, q2⟩
    · exact ho.1 a b i i' p2 q2 (by rw [p3, q3]; exact e) (by rw [p3]; exact hn)
    · omega
    · omega
  · rcases kb with ⟨q1, q2, q3, q4⟩ | ⟨q1, q2, q3⟩ | ⟨q1, q2⟩
    · omega
    · exact ⟨p1.trans q1.symm, p2.trans q2.symm⟩
    · omega
  · rcases kb with ⟨q1, q2, q3, q4⟩ | ⟨q1, q2, q3⟩ | ⟨q1, q2⟩
    · omega
    · omega
    · exact ⟨p1.trans q1.symm, by omega⟩
end
