/-! cells of the component -/
/-- the constant of a type -/
def tyc (D : JD) (t : Nat) : Nat := jcs D (if t = 16 then 357 else if t = 20 then 356 else if t = 25 then 346 else 345)
def pc67 (h : JH) (c : Nat) : Nat := if jfr h 67 c = 0 then 1 else 0
/-- a cell, whatever it holds -/
def CelW (D : JD) (h : JH) (c : Nat) : Prop :=
  c ≠ 0 ∧ sbt (jkd h c) 8 = true ∧ jkk (jkd h c) = true ∧ (jfi h 65 c = 0 ∨ jfi h 65 c = 1) ∧ (jfr h 67 c = 0 ∨ (jkd h (jfr h 67 c) = 144 ∧ jln h (jfr h 67 c) = 40 ∧ ∀ i, i < 40 → jby (jai h (jfr h 67 c) i)))
/-- a cell that holds the value v -/
def Cel (D : JD) (h : JH) (c : Nat) (v : Val) : Prop :=
  CelW D h c ∧ ((v = vNull ∧ jfi h 65 c = 1) ∨ (jfi h 65 c = 0 ∧ jfr h 64 c = tyc D v.1 ∧ ((∃ b, v = vBool b ∧ jfl h 66 c = if b then 1 else 0) ∨ (∃ n, v = vNum n ∧ jfl h 66 c = n ∧ n ≤ sMost ∧ -sMost ≤ n) ∨
    (∃ s, v = vTxt s ∧ jfr h 67 c ≠ 0 ∧ s.length ≤ 40 ∧ jfi h 68 c = nI s.length ∧ ∀ i b, s[i]? = some b → jai h (jfr h 67 c) i = b ∧ jby b))))
/-- each cell has characters of its own -/
def TX (h : JH) : Prop := ∀ a b, jfr h 67 a = jfr h 67 b → jfr h 67 a ≠ 0 → a = b
/-- from h to h' the cell c alone has changed -/
def CelF (h h' : JH) (c : Nat) : Prop :=
  fr (jsz h) (fun q => q = c ∨ q = jfr h 67 c) h h' ∧ (jfr h' 67 c = jfr h 67 c ∨ jsz h < jfr h' 67 c) ∧ (TX h → TX h') ∧ jsz h ≤ jsz h' ∧ jsz h' + pc67 h' c = jsz h + pc67 h c ∧ jus h' + 40 * pc67 h' c = jus h + 40 * pc67 h c ∧ jkd h' c = jkd h c ∧ ∀ F q, F ≠ 64 → F ≠ 67 → jfr h' F q = jfr h F q
theorem CelF.rf (h : JH) (c : Nat) : CelF h h c := ⟨fr.rf _ _ _, Or.inl rfl, fun z => z, Nat.le_refl _, rfl, rfl, rfl, fun _ _ _ _ => rfl⟩
theorem CelF.tr {a b c : JH} {o : Nat} (h1 : CelF a b o) (h2 : CelF b c o) : CelF a c o := by
  obtain ⟨a1, a2, a3, a4, a5, a6, a7, a8⟩ := h1
  obtain ⟨b1, b2, b3, b4, b5, b6, b7, b8⟩ := h2
  refine ⟨a1.tr (b1.mono a4 fun q hq hz => ?_), ?_, fun z => b3 (a3 z), by omega, by omega, by omega, b7.trans a7, fun F q f1 f2 => (b8 F q f1 f2).trans (a8 F q f1 f2)⟩
  · rcases hz with z | z
    · exact Or.inl z
    · rcases a2 with e | e
      · exact Or.inr (z.trans e)
      · omega
  · rcases b2 with e | e
    · rw [e]; exact a2
    · exact Or.inr (by omega)
/-- fields other than the characters -/
theorem CelF.fi {h : JH} {c F : Nat} (v : Int32) : CelF h (wfi h F c v) c := ⟨fr_wfi (Or.inl (Or.inl rfl)), Or.inl rfl, fun z => z, Nat.le_refl _, rfl, rfl, rfl, fun _ _ _ _ => rfl⟩
theorem CelF.fl {h : JH} {c F : Nat} (v : Int64) : CelF h (wfl h F c v) c := ⟨fr_wfl (Or.inl (Or.inl rfl)), Or.inl rfl, fun z => z, Nat.le_refl _, rfl, rfl, rfl, fun _ _ _ _ => rfl⟩
theorem CelF.ty {h : JH} {c : Nat} (v : Nat) : CelF h (wfr h 64 c v) c := by
  have e : ∀ q, jfr (wfr h 64 c v) 67 q = jfr h 67 q := fun q => by simp only [jkd_wfi, jln_wfi, jfi_wfi, jfl_wfi, jfr_wfi, jai_wfi, jal_wfi, jar_wfi, jsz_wfi, jus_wfi, jkd_wfl, jln_wfl, jfi_wfl, jfl_wfl, jfr_wfl, jai_wfl, jal_wfl, jar_wfl, jsz_wfl, jus_wfl, jkd_wfr, jln_wfr, jfi_wfr, jfl_wfr, jfr_wfr, jai_wfr, jal_wfr, jar_wfr, jsz_wfr, jus_wfr, jkd_wai, jln_wai, jfi_wai, jfl_wai, jfr_wai, jai_wai, jal_wai, jar_wai, jsz_wai, jus_wai, jkd_wal, jln_wal, jfi_wal, jfl_wal, jfr_wal, jai_wal, jal_wal, jar_wal, jsz_wal, jus_wal, jkd_war, jln_war, jfi_war, jfl_war, jfr_war, jai_war, jal_war, jar_war, jsz_war, jus_war, jkd_nwo, jln_nwo, jfi_nwo, jfl_nwo, jfr_nwo, jai_nwo, jal_nwo, jar_nwo, jsz_nwo, jus_nwo, jkd_nwa, jln_nwa, jfi_nwa, jfl_nwa, jfr_nwa, jai_nwa, jal_nwa, jar_nwa, jsz_nwa, jus_nwa, jkd_cpa, jln_cpa, jfi_cpa, jfl_cpa, jfr_cpa, jai_cpa, jal_cpa, jar_cpa, jsz_cpa, jus_cpa, Nat.reduceEqDiff, false_and, if_false]
  refine ⟨fr_wfr (Or.inl (Or.inl rfl)), Or.inl (e c), fun z a b => by rw [e, e]; exact z a b, Nat.le_refl _, ?_, ?_, rfl, fun F q f1 _ => by rw [jfr_wfr, if_neg fun z => f1 z.1]⟩
  · unfold pc67; rw [e]; rfl
  · unfold pc67; rw [e]; rfl
theorem CelF.ai {h : JH} {c i : Nat} (v : Int32) : CelF h (wai h (jfr h 67 c) i v) c := ⟨fr_wai (Or.inl (Or.inr rfl)), Or.inl rfl, fun z => z, Nat.le_refl _, rfl, rfl, rfl, fun _ _ _ _ => rfl⟩
theorem CelW.lt {D : JD} {h : JH} {c : Nat} (hI : JInv D h) (hc : CelW D h c) : c ≤ jsz h ∧ jfr h 67 c ≤ jsz h := ⟨hI.lt (sbt_ne0 hc.2.1), hI.refl⟩
theorem CelW.ne {D : JD} {h : JH} {c : Nat} (hc : CelW D h c) : c ≠ jfr h 67 c := by
  intro e
  rcases hc.2.2.2.2 with z | z
  · rw [z] at e; exact hc.1 e
  · have := hc.2.1
    rw [e, z.1] at this
    cases this
/-- a cell is as it was where its object and its characters are -/
theorem CelW.of {D : JD} {h h' : JH} {c : Nat} (hc : CelW D h c) (h1 : same h h' c) (h2 : jfr h 67 c ≠ 0 → same h h' (jfr h 67 c)) : CelW D h' c := by
  obtain ⟨c1, c2, c3, c4, c5⟩ := hc
  unfold CelW
  rw [h1.kd, h1.fi, h1.fr]
  refine ⟨c1, c2, c3, c4, ?_⟩
  rcases c5 with z | z
  · exact Or.inl z
  · by_cases e : jfr h 67 c = 0
    · exact Or.inl e
    · have := h2 e
      rw [this.kd, this.ln]
      exact Or.inr ⟨z.1, z.2.1, fun i hi => by rw [this.ai]; exact z.2.2 i hi⟩
theorem Cel.of {D : JD} {h h' : JH} {c : Nat} {v : Val} (hc : Cel D h c v) (h1 : same h h' c) (h2 : jfr h 67 c ≠ 0 → same h h' (jfr h 67 c)) : Cel D h' c v := by
  refine ⟨hc.1.of h1 h2, ?_⟩
  rcases hc.2 with ⟨e, z⟩ | ⟨z1, z2, z3⟩
  · exact Or.inl ⟨e, by rw [h1.fi]; exact z⟩
  · refine Or.inr ⟨by rw [h1.fi]; exact z1, by rw [h1.fr]; exact z2, ?_⟩
    rw [h1.fl, h1.fr, h1.fi]
    rcases z3 with z | z | ⟨s, y1, y2, y3, y4, y5⟩
    · exact Or.inl z
    · exact Or.inr (Or.inl z)
    · exact Or.inr (Or.inr ⟨s, y1, y2, y3, y4, fun i b hb => by rw [(h2 y2).ai]; exact y5 i b hb⟩)
/-- other cells stay as they are -/
theorem Cel.other {D : JD} {h h' : JH} {c o : Nat} {v : Val} (hI : JInv D h) (ht : TX h) (hc : Cel D h c v) (hf : CelF h h' o) (hne : c ≠ o) (ho : CelW D h o) : Cel D h' c v := by
  have hl := hc.1.lt hI
  have key : ∀ q, q = c ∨ (q = jfr h 67 c ∧ jfr h 67 c ≠ 0) → same h h' q := by
    rintro q (rfl | ⟨rfl, h0⟩)
    · refine hf.1 _ hl.1 ?_
      rintro (z | z)
      · exact hne z
      · rcases ho.2.2.2.2 with w | w
        · rw [w] at z; exact hc.1.1 z
        · have := hc.1.2.1; rw [z, w.1] at this; cases this
    · refine hf.1 _ hl.2 ?_
      rintro (z | z)
      · rcases hc.1.2.2.2.2 with w | w
        · exact h0 w
        · have := ho.2.1; rw [← z, w.1] at this; cases this
      · exact hne (ht _ _ z h0)
  exact hc.of (key c (Or.inl rfl)) fun h0 => key _ (Or.inr ⟨rfl, h0⟩)
theorem k_cNone {D : JD} {d : Nat} {h : JH} {c : Nat} (hc : CelW D h c) : cX14_none D (d + 1) c h (pR D h 8 (fun v h' => v = c ∧ Cel D h' c vNull ∧ CelF h h' c) no) := by
  refine t_X14_none ⟨hc.1, ?_⟩
  rintro h1 rfl
  refine endR fun _ _ _ => ⟨rfl, ⟨?_, Or.inl ⟨rfl, by simp only [jkd_wfi, jln_wfi, jfi_wfi, jfl_wfi, jfr_wfi, jai_wfi, jal_wfi, jar_wfi, jsz_wfi, jus_wfi, jkd_wfl, jln_wfl, jfi_wfl, jfl_wfl, jfr_wfl, jai_wfl, jal_wfl, jar_wfl, jsz_wfl, jus_wfl, jkd_wfr, jln_wfr, jfi_wfr, jfl_wfr, jfr_wfr, jai_wfr, jal_wfr, jar_wfr, jsz_wfr, jus_wfr, jkd_wai, jln_wai, jfi_wai, jfl_wai, jfr_wai, jai_wai, jal_wai, jar_wai, jsz_wai, jus_wai, jkd_wal, jln_wal, jfi_wal, jfl_wal, jfr_wal, jai_wal, jal_wal, jar_wal, jsz_wal, jus_wal, jkd_war, jln_war, jfi_war, jfl_war, jfr_war, jai_war, jal_war, jar_war, jsz_war, jus_war, jkd_nwo, jln_nwo, jfi_nwo, jfl_nwo, jfr_nwo, jai_nwo, jal_nwo, jar_nwo, jsz_nwo, jus_nwo, jkd_nwa, jln_nwa, jfi_nwa, jfl_nwa, jfr_nwa, jai_nwa, jal_nwa, jar_nwa, jsz_nwa, jus_nwa, jkd_cpa, jln_cpa, jfi_cpa, jfl_cpa, jfr_cpa, jai_cpa, jal_cpa, jar_cpa, jsz_cpa, jus_cpa, and_self, if_true]⟩⟩, CelF.fi _⟩
  obtain ⟨c1, c2, c3, c4, c5⟩ := hc
  exact ⟨c1, c2, c3, Or.inr (by simp only [jkd_wfi, jln_wfi, jfi_wfi, jfl_wfi, jfr_wfi, jai_wfi, jal_wfi, jar_wfi, jsz_wfi, jus_wfi, jkd_wfl, jln_wfl, jfi_wfl, jfl_wfl, jfr_wfl, jai_wfl, jal_wfl, jar_wfl, jsz_wfl, jus_wfl, jkd_wfr, jln_wfr, jfi_wfr, jfl_wfr, jfr_wfr, jai_wfr, jal_wfr, jar_wfr, jsz_wfr, jus_wfr, jkd_wai, jln_wai, jfi_wai, jfl_wai, jfr_wai, jai_wai, jal_wai, jar_wai, jsz_wai, jus_wai, jkd_wal, jln_wal, jfi_wal, jfl_wal, jfr_wal, jai_wal, jal_wal, jar_wal, jsz_wal, jus_wal, jkd_war, jln_war, jfi_war, jfl_war, jfr_war, jai_war, jal_war, jar_war, jsz_war, jus_war, jkd_nwo, jln_nwo, jfi_nwo, jfl_nwo, jfr_nwo, jai_nwo, jal_nwo, jar_nwo, jsz_nwo, jus_nwo, jkd_nwa, jln_nwa, jfi_nwa, jfl_nwa, jfr_nwa, jai_nwa, jal_nwa, jar_nwa, jsz_nwa, jus_nwa, jkd_cpa, jln_cpa, jfi_cpa, jfl_cpa, jfr_cpa, jai_cpa, jal_cpa, jar_cpa, jsz_cpa, jus_cpa, and_self, if_true]), c5⟩
theorem k_cInit {D : JD} {d : Nat} {h : JH} {c : Nat} (h0 : c ≠ 0) (hk : sbt (jkd h c) 8 = true) (hkk : jkk (jkd h c) = true) (hz : jfr h 67 c = 0) : cX14_init D (d + 1) c h (pV D h (fun h' => Cel D h' c vNull ∧ CelF h h' c) no) := by
  refine t_X14_init ⟨h0, ?_⟩
  rintro h1 rfl h2 rfl
  have e : jfr (wfi (wfr h 64 c (jcs D 345)) 65 c 1) 67 c = 0 := by simp only [jkd_wfi, jln_wfi, jfi_wfi, jfl_wfi, jfr_wfi, jai_wfi, jal_wfi, jar_wfi, jsz_wfi, jus_wfi, jkd_wfl, jln_wfl, jfi_wfl, jfl_wfl, jfr_wfl, jai_wfl, jal_wfl, jar_wfl, jsz_wfl, jus_wfl, jkd_wfr, jln_wfr, jfi_wfr, jfl_wfr, jfr_wfr, jai_wfr, jal_wfr, jar_wfr, jsz_wfr, jus_wfr, jkd_wai, jln_wai, jfi_wai, jfl_wai, jfr_wai, jai_wai, jal_wai, jar_wai, jsz_wai, jus_wai, jkd_wal, jln_wal, jfi_wal, jfl_wal, jfr_wal, jai_wal, jal_wal, jar_wal, jsz_wal, jus_wal, jkd_war, jln_war, jfi_war, jfl_war, jfr_war, jai_war, jal_war, jar_war, jsz_war, jus_war, jkd_nwo, jln_nwo, jfi_nwo, jfl_nwo, jfr_nwo, jai_nwo, jal_nwo, jar_nwo, jsz_nwo, jus_nwo, jkd_nwa, jln_nwa, jfi_nwa, jfl_nwa, jfr_nwa, jai_nwa, jal_nwa, jar_nwa, jsz_nwa, jus_nwa, jkd_cpa, jln_cpa, jfi_cpa, jfl_cpa, jfr_cpa, jai_cpa, jal_cpa, jar_cpa, jsz_cpa, jus_cpa, Nat.reduceEqDiff, false_and, if_false]; exact hz
  refine endV fun _ _ => ⟨⟨⟨h0, hk, hkk, Or.inr (by simp only [jkd_wfi, jln_wfi, jfi_wfi, jfl_wfi, jfr_wfi, jai_wfi, jal_wfi, jar_wfi, jsz_wfi, jus_wfi, jkd_wfl, jln_wfl, jfi_wfl, jfl_wfl, jfr_wfl, jai_wfl, jal_wfl, jar_wfl, jsz_wfl, jus_wfl, jkd_wfr, jln_wfr, jfi_wfr, jfl_wfr, jfr_wfr, jai_wfr, jal_wfr, jar_wfr, jsz_wfr, jus_wfr, jkd_wai, jln_wai, jfi_wai, jfl_wai, jfr_wai, jai_wai, jal_wai, jar_wai, jsz_wai, jus_wai, jkd_wal, jln_wal, jfi_wal, jfl_wal, jfr_wal, jai_wal, jal_wal, jar_wal, jsz_wal, jus_wal, jkd_war, jln_war, jfi_war, jfl_war, jfr_war, jai_war, jal_war, jar_war, jsz_war, jus_war, jkd_nwo, jln_nwo, jfi_nwo, jfl_nwo, jfr_nwo, jai_nwo, jal_nwo, jar_nwo, jsz_nwo, jus_nwo, jkd_nwa, jln_nwa, jfi_nwa, jfl_nwa, jfr_nwa, jai_nwa, jal_nwa, jar_nwa, jsz_nwa, jus_nwa, jkd_cpa, jln_cpa, jfi_cpa, jfl_cpa, jfr_cpa, jai_cpa, jal_cpa, jar_cpa, jsz_cpa, jus_cpa, and_self, if_true]), Or.inl e⟩, Or.inl ⟨rfl, by simp only [jkd_wfi, jln_wfi, jfi_wfi, jfl_wfi, jfr_wfi, jai_wfi, jal_wfi, jar_wfi, jsz_wfi, jus_wfi, jkd_wfl, jln_wfl, jfi_wfl, jfl_wfl, jfr_wfl, jai_wfl, jal_wfl, jar_wfl, jsz_wfl, jus_wfl, jkd_wfr, jln_wfr, jfi_wfr, jfl_wfr, jfr_wfr, jai_wfr, jal_wfr, jar_wfr, jsz_wfr, jus_wfr, jkd_wai, jln_wai, jfi_wai, jfl_wai, jfr_wai, jai_wai, jal_wai, jar_wai, jsz_wai, jus_wai, jkd_wal, jln_wal, jfi_wal, jfl_wal, jfr_wal, jai_wal, jal_wal, jar_wal, jsz_wal, jus_wal, jkd_war, jln_war, jfi_war, jfl_war, jfr_war, jai_war, jal_war, jar_war, jsz_war, jus_war, jkd_nwo, jln_nwo, jfi_nwo, jfl_nwo, jfr_nwo, jai_nwo, jal_nwo, jar_nwo, jsz_nwo, jus_nwo, jkd_nwa, jln_nwa, jfi_nwa, jfl_nwa, jfr_nwa, jai_nwa, jal_nwa, jar_nwa, jsz_nwa, jus_nwa, jkd_cpa, jln_cpa, jfi_cpa, jfl_cpa, jfr_cpa, jai_cpa, jal_cpa, jar_cpa, jsz_cpa, jus_cpa, and_self, if_true]⟩⟩, (CelF.ty _).tr (CelF.fi _)⟩
theorem k_cTruth {D : JD} {d : Nat} {h : JH} {c : Nat} {x : Int32} (hc : CelW D h c) : cX14_truth D (d + 1) c x h (pR D h 8 (fun v h' => v = c ∧ Cel D h' c (vBool (x ≠ 0)) ∧ CelF h h' c) no) := by
  have main : ∀ b : Bool, Cel D (wfl (wfr (wfi h 65 c 0) 64 c (jcs D 357)) 66 c (if b then 1 else 0)) c (vBool b) ∧ CelF h (wfl (wfr (wfi h 65 c 0) 64 c (jcs D 357)) 66 c (if b then 1 else 0)) c := by
    intro b
    obtain ⟨c1, c2, c3, c4, c5⟩ := hc
    have e : jfr (wfl (wfr (wfi h 65 c 0) 64 c (jcs D 357)) 66 c (if b then 1 else 0)) 67 c = jfr h 67 c := by simp only [jkd_wfi, jln_wfi, jfi_wfi, jfl_wfi, jfr_wfi, jai_wfi, jal_wfi, jar_wfi, jsz_wfi, jus_wfi, jkd_wfl, jln_wfl, jfi_wfl, jfl_wfl, jfr_wfl, jai_wfl, jal_wfl, jar_wfl, jsz_wfl, jus_wfl, jkd_wfr, jln_wfr, jfi_wfr, jfl_wfr, jfr_wfr, jai_wfr, jal_wfr, jar_wfr, jsz_wfr, jus_wfr, jkd_wai, jln_wai, jfi_wai, jfl_wai, jfr_wai, jai_wai, jal_wai, jar_wai, jsz_wai, jus_wai, jkd_wal, jln_wal, jfi_wal, jfl_wal, jfr_wal, jai_wal, jal_wal, jar_wal, jsz_wal, jus_wal, jkd_war, jln_war, jfi_war, jfl_war, jfr_war, jai_war, jal_war, jar_war, jsz_war, jus_war, jkd_nwo, jln_nwo, jfi_nwo, jfl_nwo, jfr_nwo, jai_nwo, jal_nwo, jar_nwo, jsz_nwo, jus_nwo, jkd_nwa, jln_nwa, jfi_nwa, jfl_nwa, jfr_nwa, jai_nwa, jal_nwa, jar_nwa, jsz_nwa, jus_nwa, jkd_cpa, jln_cpa, jfi_cpa, jfl_cpa, jfr_cpa, jai_cpa, jal_cpa, jar_cpa, jsz_cpa, jus_cpa, Nat.reduceEqDiff, false_and, if_false]
    refine ⟨⟨⟨c1, c2, c3, Or.inl (by simp only [jkd_wfi, jln_wfi, jfi_wfi, jfl_wfi, jfr_wfi, jai_wfi, jal_wfi, jar_wfi, jsz_wfi, jus_wfi, jkd_wfl, jln_wfl, jfi_wfl, jfl_wfl, jfr_wfl, jai_wfl, jal_wfl, jar_wfl, jsz_wfl, jus_wfl, jkd_wfr, jln_wfr, jfi_wfr, jfl_wfr, jfr_wfr, jai_wfr, jal_wfr, jar_wfr, jsz_wfr, jus_wfr, jkd_wai, jln_wai, jfi_wai, jfl_wai, jfr_wai, jai_wai, jal_wai, jar_wai, jsz_wai, jus_wai, jkd_wal, jln_wal, jfi_wal, jfl_wal, jfr_wal, jai_wal, jal_wal, jar_wal, jsz_wal, jus_wal, jkd_war, jln_war, jfi_war, jfl_war, jfr_war, jai_war, jal_war, jar_war, jsz_war, jus_war, jkd_nwo, jln_nwo, jfi_nwo, jfl_nwo, jfr_nwo, jai_nwo, jal_nwo, jar_nwo, jsz_nwo, jus_nwo, jkd_nwa, jln_nwa, jfi_nwa, jfl_nwa, jfr_nwa, jai_nwa, jal_nwa, jar_nwa, jsz_nwa, jus_nwa, jkd_cpa, jln_cpa, jfi_cpa, jfl_cpa, jfr_cpa, jai_cpa, jal_cpa, jar_cpa, jsz_cpa, jus_cpa, and_self, if_true]), by rw [e]; exact c5⟩, Or.inr ⟨by simp only [jkd_wfi, jln_wfi, jfi_wfi, jfl_wfi, jfr_wfi, jai_wfi, jal_wfi, jar_wfi, jsz_wfi, jus_wfi, jkd_wfl, jln_wfl, jfi_wfl, jfl_wfl, jfr_wfl, jai_wfl, jal_wfl, jar_wfl, jsz_wfl, jus_wfl, jkd_wfr, jln_wfr, jfi_wfr, jfl_wfr, jfr_wfr, jai_wfr, jal_wfr, jar_wfr, jsz_wfr, jus_wfr, jkd_wai, jln_wai, jfi_wai, jfl_wai, jfr_wai, jai_wai, jal_wai, jar_wai, jsz_wai, jus_wai, jkd_wal, jln_wal, jfi_wal, jfl_wal, jfr_wal, jai_wal, jal_wal, jar_wal, jsz_wal, jus_wal, jkd_war, jln_war, jfi_war, jfl_war, jfr_war, jai_war, jal_war, jar_war, jsz_war, jus_war, jkd_nwo, jln_nwo, jfi_nwo, jfl_nwo, jfr_nwo, jai_nwo, jal_nwo, jar_nwo, jsz_nwo, jus_nwo, jkd_nwa, jln_nwa, jfi_nwa, jfl_nwa, jfr_nwa, jai_nwa, jal_nwa, jar_nwa, jsz_nwa, jus_nwa, jkd_cpa, jln_cpa, jfi_cpa, jfl_cpa, jfr_cpa, jai_cpa, jal_cpa, jar_cpa, jsz_cpa, jus_cpa, and_self, if_true], by simp only [jkd_wfi, jln_wfi, jfi_wfi, jfl_wfi, jfr_wfi, jai_wfi, jal_wfi, jar_wfi, jsz_wfi, jus_wfi, jkd_wfl, jln_wfl, jfi_wfl, jfl_wfl, jfr_wfl, jai_wfl, jal_wfl, jar_wfl, jsz_wfl, jus_wfl, jkd_wfr, jln_wfr, jfi_wfr, jfl_wfr, jfr_wfr, jai_wfr, jal_wfr, jar_wfr, jsz_wfr, jus_wfr, jkd_wai, jln_wai, jfi_wai, jfl_wai, jfr_wai, jai_wai, jal_wai, jar_wai, jsz_wai, jus_wai, jkd_wal, jln_wal, jfi_wal, jfl_wal, jfr_wal, jai_wal, jal_wal, jar_wal, jsz_wal, jus_wal, jkd_war, jln_war, jfi_war, jfl_war, jfr_war, jai_war, jal_war, jar_war, jsz_war, jus_war, jkd_nwo, jln_nwo, jfi_nwo, jfl_nwo, jfr_nwo, jai_nwo, jal_nwo, jar_nwo, jsz_nwo, jus_nwo, jkd_nwa, jln_nwa, jfi_nwa, jfl_nwa, jfr_nwa, jai_nwa, jal_nwa, jar_nwa, jsz_nwa, jus_nwa, jkd_cpa, jln_cpa, jfi_cpa, jfl_cpa, jfr_cpa, jai_cpa, jal_cpa, jar_cpa, jsz_cpa, jus_cpa, and_self, if_true]; rfl, Or.inl ⟨b, rfl, by simp only [jkd_wfi, jln_wfi, jfi_wfi, jfl_wfi, jfr_wfi, jai_wfi, jal_wfi, jar_wfi, jsz_wfi, jus_wfi, jkd_wfl, jln_wfl, jfi_wfl, jfl_wfl, jfr_wfl, jai_wfl, jal_wfl, jar_wfl, jsz_wfl, jus_wfl, jkd_wfr, jln_wfr, jfi_wfr, jfl_wfr, jfr_wfr, jai_wfr, jal_wfr, jar_wfr, jsz_wfr, jus_wfr, jkd_wai, jln_wai, jfi_wai, jfl_wai, jfr_wai, jai_wai, jal_wai, jar_wai, jsz_wai, jus_wai, jkd_wal, jln_wal, jfi_wal, jfl_wal, jfr_wal, jai_wal, jal_wal, jar_wal, jsz_wal, jus_wal, jkd_war, jln_war, jfi_war, jfl_war, jfr_war, jai_war, jal_war, jar_war, jsz_war, jus_war, jkd_nwo, jln_nwo, jfi_nwo, jfl_nwo, jfr_nwo, jai_nwo, jal_nwo, jar_nwo, jsz_nwo, jus_nwo, jkd_nwa, jln_nwa, jfi_nwa, jfl_nwa, jfr_nwa, jai_nwa, jal_nwa, jar_nwa, jsz_nwa, jus_nwa, jkd_cpa, jln_cpa, jfi_cpa, jfl_cpa, jfr_cpa, jai_cpa, jal_cpa, jar_cpa, jsz_cpa, jus_cpa, and_self, if_true]⟩⟩⟩, ((CelF.fi _).tr (CelF.ty _)).tr (CelF.fl _)⟩
  refine t_X14_truth ⟨hc.1, ?_⟩
  rintro h1 rfl h2 rfl
  refine ⟨fun z => ⟨hc.1, ?_⟩, fun z => ⟨hc.1, ?_⟩⟩
  · rintro h3 rfl
    have := main false
    exact endR fun _ _ _ => ⟨rfl, by simpa [z] using this⟩
  · rintro h3 rfl
    have := main true
    exact endR fun _ _ _ => ⟨rfl, by simpa [z] using this⟩
/-- a number, or the fault 22003 -/
theorem k_cNumber {D : JD} {d : Nat} {h : JH} {c : Nat} {n : Int64} (hc : CelW D h c) : cX14_number D (d + 8) c n h (pR D h 8 (fun v h' => v = c ∧ xNum n = .ok (vNum n) ∧ Cel D h' c (vNum n) ∧ CelF h h' c) (fun x h' => xNum n = xErr "22003" ∧ FtR h' x (sStr "22003") (-1) ∧ New h h' 1 8)) := by
  refine JW.inv fun hI => ?_
  have hq : StR h (jcs D 105) (sStr "22003") := by
    have := k_const hI (j := 105) (by decide)
    rwa [show jcon 105 = sStr "22003" by decide +kernel] at this
  have bad : xNum n = xErr "22003" → W_X14_number_16 D (d + 7) (pR D h 8 (fun v h' => v = c ∧ xNum n = .ok (vNum n) ∧ Cel D h' c (vNum n) ∧ CelF h h' c) (fun x h' => xNum n = xErr "22003" ∧ FtR h' x (sStr "22003") (-1) ∧ New h h' 1 8)) h := by
    intro hx
    refine useR0 (k_fault hq) ?_
    rintro v h1 _ _ ⟨f1, f2⟩
    exact ⟨f1.1, endX fun _ _ => ⟨hx, f1, f2⟩⟩
  refine t_X14_number ⟨fun z => bad ?_, fun z => ⟨fun z2 => ⟨hc.1, ?_⟩, fun z2 => bad ?_⟩⟩
  · rw [cmp_gt] at z
    unfold xNum
    rw [if_neg]
    simp only [Bool.and_eq_true, decide_eq_true_eq]
    exact fun w => absurd (Int64.lt_of_lt_of_le z w.1) (Int64.lt_irrefl)
  · rw [cmp_gt] at z
    rw [cmp_ge] at z2
    have w1 : n ≤ sMost := Int64.not_lt.mp z
    have w2 : -sMost ≤ n := Int64.not_lt.mp z2
    rintro h1 rfl h2 rfl h3 rfl
    obtain ⟨c1, c2, c3, c4, c5⟩ := hc
    have e : jfr (wfl (wfr (wfi h 65 c 0) 64 c (jcs D 356)) 66 c n) 67 c = jfr h 67 c := by simp only [jkd_wfi, jln_wfi, jfi_wfi, jfl_wfi, jfr_wfi, jai_wfi, jal_wfi, jar_wfi, jsz_wfi, jus_wfi, jkd_wfl, jln_wfl, jfi_wfl, jfl_wfl, jfr_wfl, jai_wfl, jal_wfl, jar_wfl, jsz_wfl, jus_wfl, jkd_wfr, jln_wfr, jfi_wfr, jfl_wfr, jfr_wfr, jai_wfr, jal_wfr, jar_wfr, jsz_wfr, jus_wfr, jkd_wai, jln_wai, jfi_wai, jfl_wai, jfr_wai, jai_wai, jal_wai, jar_wai, jsz_wai, jus_wai, jkd_wal, jln_wal, jfi_wal, jfl_wal, jfr_wal, jai_wal, jal_wal, jar_wal, jsz_wal, jus_wal, jkd_war, jln_war, jfi_war, jfl_war, jfr_war, jai_war, jal_war, jar_war, jsz_war, jus_war, jkd_nwo, jln_nwo, jfi_nwo, jfl_nwo, jfr_nwo, jai_nwo, jal_nwo, jar_nwo, jsz_nwo, jus_nwo, jkd_nwa, jln_nwa, jfi_nwa, jfl_nwa, jfr_nwa, jai_nwa, jal_nwa, jar_nwa, jsz_nwa, jus_nwa, jkd_cpa, jln_cpa, jfi_cpa, jfl_cpa, jfr_cpa, jai_cpa, jal_cpa, jar_cpa, jsz_cpa, jus_cpa, Nat.reduceEqDiff, false_and, if_false]
    refine endR fun _ _ _ => ⟨rfl, ?_, ⟨⟨c1, c2, c3, Or.inl (by simp only [jkd_wfi, jln_wfi, jfi_wfi, jfl_wfi, jfr_wfi, jai_wfi, jal_wfi, jar_wfi, jsz_wfi, jus_wfi, jkd_wfl, jln_wfl, jfi_wfl, jfl_wfl, jfr_wfl, jai_wfl, jal_wfl, jar_wfl, jsz_wfl, jus_wfl, jkd_wfr, jln_wfr, jfi_wfr, jfl_wfr, jfr_wfr, jai_wfr, jal_wfr, jar_wfr, jsz_wfr, jus_wfr, jkd_wai, jln_wai, jfi_wai, jfl_wai, jfr_wai, jai_wai, jal_wai, jar_wai, jsz_wai, jus_wai, jkd_wal, jln_wal, jfi_wal, jfl_wal, jfr_wal, jai_wal, jal_wal, jar_wal, jsz_wal, jus_wal, jkd_war, jln_war, jfi_war, jfl_war, jfr_war, jai_war, jal_war, jar_war, jsz_war, jus_war, jkd_nwo, jln_nwo, jfi_nwo, jfl_nwo, jfr_nwo, jai_nwo, jal_nwo, jar_nwo, jsz_nwo, jus_nwo, jkd_nwa, jln_nwa, jfi_nwa, jfl_nwa, jfr_nwa, jai_nwa, jal_nwa, jar_nwa, jsz_nwa, jus_nwa, jkd_cpa, jln_cpa, jfi_cpa, jfl_cpa, jfr_cpa, jai_cpa, jal_cpa, jar_cpa, jsz_cpa, jus_cpa, and_self, if_true]), by rw [e]; exact c5⟩, Or.inr ⟨by simp only [jkd_wfi, jln_wfi, jfi_wfi, jfl_wfi, jfr_wfi, jai_wfi, jal_wfi, jar_wfi, jsz_wfi, jus_wfi, jkd_wfl, jln_wfl, jfi_wfl, jfl_wfl, jfr_wfl, jai_wfl, jal_wfl, jar_wfl, jsz_wfl, jus_wfl, jkd_wfr, jln_wfr, jfi_wfr, jfl_wfr, jfr_wfr, jai_wfr, jal_wfr, jar_wfr, jsz_wfr, jus_wfr, jkd_wai, jln_wai, jfi_wai, jfl_wai, jfr_wai, jai_wai, jal_wai, jar_wai, jsz_wai, jus_wai, jkd_wal, jln_wal, jfi_wal, jfl_wal, jfr_wal, jai_wal, jal_wal, jar_wal, jsz_wal, jus_wal, jkd_war, jln_war, jfi_war, jfl_war, jfr_war, jai_war, jal_war, jar_war, jsz_war, jus_war, jkd_nwo, jln_nwo, jfi_nwo, jfl_nwo, jfr_nwo, jai_nwo, jal_nwo, jar_nwo, jsz_nwo, jus_nwo, jkd_nwa, jln_nwa, jfi_nwa, jfl_nwa, jfr_nwa, jai_nwa, jal_nwa, jar_nwa, jsz_nwa, jus_nwa, jkd_cpa, jln_cpa, jfi_cpa, jfl_cpa, jfr_cpa, jai_cpa, jal_cpa, jar_cpa, jsz_cpa, jus_cpa, and_self, if_true], by simp only [jkd_wfi, jln_wfi, jfi_wfi, jfl_wfi, jfr_wfi, jai_wfi, jal_wfi, jar_wfi, jsz_wfi, jus_wfi, jkd_wfl, jln_wfl, jfi_wfl, jfl_wfl, jfr_wfl, jai_wfl, jal_wfl, jar_wfl, jsz_wfl, jus_wfl, jkd_wfr, jln_wfr, jfi_wfr, jfl_wfr, jfr_wfr, jai_wfr, jal_wfr, jar_wfr, jsz_wfr, jus_wfr, jkd_wai, jln_wai, jfi_wai, jfl_wai, jfr_wai, jai_wai, jal_wai, jar_wai, jsz_wai, jus_wai, jkd_wal, jln_wal, jfi_wal, jfl_wal, jfr_wal, jai_wal, jal_wal, jar_wal, jsz_wal, jus_wal, jkd_war, jln_war, jfi_war, jfl_war, jfr_war, jai_war, jal_war, jar_war, jsz_war, jus_war, jkd_nwo, jln_nwo, jfi_nwo, jfl_nwo, jfr_nwo, jai_nwo, jal_nwo, jar_nwo, jsz_nwo, jus_nwo, jkd_nwa, jln_nwa, jfi_nwa, jfl_nwa, jfr_nwa, jai_nwa, jal_nwa, jar_nwa, jsz_nwa, jus_nwa, jkd_cpa, jln_cpa, jfi_cpa, jfl_cpa, jfr_cpa, jai_cpa, jal_cpa, jar_cpa, jsz_cpa, jus_cpa, and_self, if_true]; rfl, Or.inr (Or.inl ⟨n, rfl, by simp only [jkd_wfi, jln_wfi, jfi_wfi, jfl_wfi, jfr_wfi, jai_wfi, jal_wfi, jar_wfi, jsz_wfi, jus_wfi, jkd_wfl, jln_wfl, jfi_wfl, jfl_wfl, jfr_wfl, jai_wfl, jal_wfl, jar_wfl, jsz_wfl, jus_wfl, jkd_wfr, jln_wfr, jfi_wfr, jfl_wfr, jfr_wfr, jai_wfr, jal_wfr, jar_wfr, jsz_wfr, jus_wfr, jkd_wai, jln_wai, jfi_wai, jfl_wai, jfr_wai, jai_wai, jal_wai, jar_wai, jsz_wai, jus_wai, jkd_wal, jln_wal, jfi_wal, jfl_wal, jfr_wal, jai_wal, jal_wal, jar_wal, jsz_wal, jus_wal, jkd_war, jln_war, jfi_war, jfl_war, jfr_war, jai_war, jal_war, jar_war, jsz_war, jus_war, jkd_nwo, jln_nwo, jfi_nwo, jfl_nwo, jfr_nwo, jai_nwo, jal_nwo, jar_nwo, jsz_nwo, jus_nwo, jkd_nwa, jln_nwa, jfi_nwa, jfl_nwa, jfr_nwa, jai_nwa, jal_nwa, jar_nwa, jsz_nwa, jus_nwa, jkd_cpa, jln_cpa, jfi_cpa, jfl_cpa, jfr_cpa, jai_cpa, jal_cpa, jar_cpa, jsz_cpa, jus_cpa, and_self, if_true], w1, w2⟩)⟩⟩, ((CelF.fi _).tr (CelF.ty _)).tr (CelF.fl _)⟩
    unfold xNum
    rw [if_pos (by simp only [w1, w2, decide_true, Bool.and_self])]
  · rw [cmp_ge, Classical.not_not] at z2
    unfold xNum
    rw [if_neg]
    simp only [Bool.and_eq_true, decide_eq_true_eq]
    exact fun w => absurd (Int64.lt_of_lt_of_le z2 w.2) (Int64.lt_irrefl)
/-- room for characters -/
theorem k_cRoom {D : JD} {d : Nat} {h : JH} {c : Nat} (hc : CelW D h c) : cX14_room D (d + 1) c h (pR D h 65 (fun v h' => v = jfr h' 67 c ∧ v ≠ 0 ∧ CelW D h' c ∧ CelF h h' c ∧ (∀ F, jfi h' F c = jfi h F c) ∧ (∀ F, jfl h' F c = jfl h F c) ∧ (∀ F, F ≠ 67 → jfr h' F c = jfr h F c) ∧ (jfr h 67 c ≠ 0 → h' = h)) no) := by
  refine JW.inv fun hI => ?_
  have hl := hc.lt hI
  refine t_X14_room ⟨hc.1, fun z => ⟨hc.1, endR fun _ _ _ => ⟨rfl, z, hc, CelF.rf h c, fun _ => rfl, fun _ => rfl, fun _ _ => rfl, fun _ => rfl⟩⟩, fun z => ?_⟩
  rintro r1 h1 rfl rfl h2 rfl
  have e : jfr (wfr (nwa h 144 40) 67 c (jsz h + 1)) 67 c = jsz h + 1 := by simp only [jkd_wfi, jln_wfi, jfi_wfi, jfl_wfi, jfr_wfi, jai_wfi, jal_wfi, jar_wfi, jsz_wfi, jus_wfi, jkd_wfl, jln_wfl, jfi_wfl, jfl_wfl, jfr_wfl, jai_wfl, jal_wfl, jar_wfl, jsz_wfl, jus_wfl, jkd_wfr, jln_wfr, jfi_wfr, jfl_wfr, jfr_wfr, jai_wfr, jal_wfr, jar_wfr, jsz_wfr, jus_wfr, jkd_wai, jln_wai, jfi_wai, jfl_wai, jfr_wai, jai_wai, jal_wai, jar_wai, jsz_wai, jus_wai, jkd_wal, jln_wal, jfi_wal, jfl_wal, jfr_wal, jai_wal, jal_wal, jar_wal, jsz_wal, jus_wal, jkd_war, jln_war, jfi_war, jfl_war, jfr_war, jai_war, jal_war, jar_war, jsz_war, jus_war, jkd_nwo, jln_nwo, jfi_nwo, jfl_nwo, jfr_nwo, jai_nwo, jal_nwo, jar_nwo, jsz_nwo, jus_nwo, jkd_nwa, jln_nwa, jfi_nwa, jfl_nwa, jfr_nwa, jai_nwa, jal_nwa, jar_nwa, jsz_nwa, jus_nwa, jkd_cpa, jln_cpa, jfi_cpa, jfl_cpa, jfr_cpa, jai_cpa, jal_cpa, jar_cpa, jsz_cpa, jus_cpa, and_self, if_true]
  have hne : c ≠ jsz h + 1 := by omega
  refine ⟨hc.1, ?_⟩
  rw [e]
  refine endR fun _ _ _ => ⟨e.symm, Nat.succ_ne_zero _, ?_, ?_, fun _ => rfl, fun _ => rfl, fun F hF => by simp only [jkd_wfi, jln_wfi, jfi_wfi, jfl_wfi, jfr_wfi, jai_wfi, jal_wfi, jar_wfi, jsz_wfi, jus_wfi, jkd_wfl, jln_wfl, jfi_wfl, jfl_wfl, jfr_wfl, jai_wfl, jal_wfl, jar_wfl, jsz_wfl, jus_wfl, jkd_wfr, jln_wfr, jfi_wfr, jfl_wfr, jfr_wfr, jai_wfr, jal_wfr, jar_wfr, jsz_wfr, jus_wfr, jkd_wai, jln_wai, jfi_wai, jfl_wai, jfr_wai, jai_wai, jal_wai, jar_wai, jsz_wai, jus_wai, jkd_wal, jln_wal, jfi_wal, jfl_wal, jfr_wal, jai_wal, jal_wal, jar_wal, jsz_wal, jus_wal, jkd_war, jln_war, jfi_war, jfl_war, jfr_war, jai_war, jal_war, jar_war, jsz_war, jus_war, jkd_nwo, jln_nwo, jfi_nwo, jfl_nwo, jfr_nwo, jai_nwo, jal_nwo, jar_nwo, jsz_nwo, jus_nwo, jkd_nwa, jln_nwa, jfi_nwa, jfl_nwa, jfr_nwa, jai_nwa, jal_nwa, jar_nwa, jsz_nwa, jus_nwa, jkd_cpa, jln_cpa, jfi_cpa, jfl_cpa, jfr_cpa, jai_cpa, jal_cpa, jar_cpa, jsz_cpa, jus_cpa, hF, false_and, if_false], fun w => absurd z w⟩
  · obtain ⟨c1, c2, c3, c4, c5⟩ := hc
    unfold CelW
    rw [e]
    simp only [jkd_wfi, jln_wfi, jfi_wfi, jfl_wfi, jfr_wfi, jai_wfi, jal_wfi, jar_wfi, jsz_wfi, jus_wfi, jkd_wfl, jln_wfl, jfi_wfl, jfl_wfl, jfr_wfl, jai_wfl, jal_wfl, jar_wfl, jsz_wfl, jus_wfl, jkd_wfr, jln_wfr, jfi_wfr, jfl_wfr, jfr_wfr, jai_wfr, jal_wfr, jar_wfr, jsz_wfr, jus_wfr, jkd_wai, jln_wai, jfi_wai, jfl_wai, jfr_wai, jai_wai, jal_wai, jar_wai, jsz_wai, jus_wai, jkd_wal, jln_wal, jfi_wal, jfl_wal, jfr_wal, jai_wal, jal_wal, jar_wal, jsz_wal, jus_wal, jkd_war, jln_war, jfi_war, jfl_war, jfr_war, jai_war, jal_war, jar_war, jsz_war, jus_war, jkd_nwo, jln_nwo, jfi_nwo, jfl_nwo, jfr_nwo, jai_nwo, jal_nwo, jar_nwo, jsz_nwo, jus_nwo, jkd_nwa, jln_nwa, jfi_nwa, jfl_nwa, jfr_nwa, jai_nwa, jal_nwa, jar_nwa, jsz_nwa, jus_nwa, jkd_cpa, jln_cpa, jfi_cpa, jfl_cpa, jfr_cpa, jai_cpa, jal_cpa, jar_cpa, jsz_cpa, jus_cpa, if_true, hne, if_false]
    exact ⟨c1, c2, c3, c4, Or.inr ⟨trivial, trivial, fun i _ => by rw [hI.zai (by omega)]; rfl⟩⟩
  · refine ⟨(fr_nwa (Nat.le_refl _)).tr (fr_wfr (Or.inl (Or.inl rfl))), Or.inr (by rw [e]; omega), fun t a b hab h0 => ?_, ?_, ?_, ?_, ?_⟩
    · have ea : ∀ q, jfr (wfr (nwa h 144 40) 67 c (jsz h + 1)) 67 q = if q = c then jsz h + 1 else jfr h 67 q := fun q => by simp only [jkd_wfi, jln_wfi, jfi_wfi, jfl_wfi, jfr_wfi, jai_wfi, jal_wfi, jar_wfi, jsz_wfi, jus_wfi, jkd_wfl, jln_wfl, jfi_wfl, jfl_wfl, jfr_wfl, jai_wfl, jal_wfl, jar_wfl, jsz_wfl, jus_wfl, jkd_wfr, jln_wfr, jfi_wfr, jfl_wfr, jfr_wfr, jai_wfr, jal_wfr, jar_wfr, jsz_wfr, jus_wfr, jkd_wai, jln_wai, jfi_wai, jfl_wai, jfr_wai, jai_wai, jal_wai, jar_wai, jsz_wai, jus_wai, jkd_wal, jln_wal, jfi_wal, jfl_wal, jfr_wal, jai_wal, jal_wal, jar_wal, jsz_wal, jus_wal, jkd_war, jln_war, jfi_war, jfl_war, jfr_war, jai_war, jal_war, jar_war, jsz_war, jus_war, jkd_nwo, jln_nwo, jfi_nwo, jfl_nwo, jfr_nwo, jai_nwo, jal_nwo, jar_nwo, jsz_nwo, jus_nwo, jkd_nwa, jln_nwa, jfi_nwa, jfl_nwa, jfr_nwa, jai_nwa, jal_nwa, jar_nwa, jsz_nwa, jus_nwa, jkd_cpa, jln_cpa, jfi_cpa, jfl_cpa, jfr_cpa, jai_cpa, jal_cpa, jar_cpa, jsz_cpa, jus_cpa, true_and]
      rw [ea, ea] at hab
      rw [ea] at h0
      by_cases qa : a = c
      · by_cases qb : b = c
        · rw [qa, qb]
        · rw [if_pos qa, if_neg qb] at hab
          have := hI.refl (F := 67) (r := b); omega
      · by_cases qb : b = c
        · rw [if_neg qa, if_pos qb] at hab
          have := hI.refl (F := 67) (r := a); omega
        · rw [if_neg qa, if_neg qb] at hab
          rw [if_neg qa] at h0
          exact t a b hab h0
    · simp only [jkd_wfi, jln_wfi, jfi_wfi, jfl_wfi, jfr_wfi, jai_wfi, jal_wfi, jar_wfi, jsz_wfi, jus_wfi, jkd_wfl, jln_wfl, jfi_wfl, jfl_wfl, jfr_wfl, jai_wfl, jal_wfl, jar_wfl, jsz_wfl, jus_wfl, jkd_wfr, jln_wfr, jfi_wfr, jfl_wfr, jfr_wfr, jai_wfr, jal_wfr, jar_wfr, jsz_wfr, jus_wfr, jkd_wai, jln_wai, jfi_wai, jfl_wai, jfr_wai, jai_wai, jal_wai, jar_wai, jsz_wai, jus_wai, jkd_wal, jln_wal, jfi_wal, jfl_wal, jfr_wal, jai_wal, jal_wal, jar_wal, jsz_wal, jus_wal, jkd_war, jln_war, jfi_war, jfl_war, jfr_war, jai_war, jal_war, jar_war, jsz_war, jus_war, jkd_nwo, jln_nwo, jfi_nwo, jfl_nwo, jfr_nwo, jai_nwo, jal_nwo, jar_nwo, jsz_nwo, jus_nwo, jkd_nwa, jln_nwa, jfi_nwa, jfl_nwa, jfr_nwa, jai_nwa, jal_nwa, jar_nwa, jsz_nwa, jus_nwa, jkd_cpa, jln_cpa, jfi_cpa, jfl_cpa, jfr_cpa, jai_cpa, jal_cpa, jar_cpa, jsz_cpa, jus_cpa]; omega
    · unfold pc67; rw [e, z, if_neg (Nat.succ_ne_zero _), if_pos rfl]; rfl
    · unfold pc67; rw [e, z, if_neg (Nat.succ_ne_zero _), if_pos rfl]; rfl
    · refine ⟨by simp only [jkd_wfi, jln_wfi, jfi_wfi, jfl_wfi, jfr_wfi, jai_wfi, jal_wfi, jar_wfi, jsz_wfi, jus_wfi, jkd_wfl, jln_wfl, jfi_wfl, jfl_wfl, jfr_wfl, jai_wfl, jal_wfl, jar_wfl, jsz_wfl, jus_wfl, jkd_wfr, jln_wfr, jfi_wfr, jfl_wfr, jfr_wfr, jai_wfr, jal_wfr, jar_wfr, jsz_wfr, jus_wfr, jkd_wai, jln_wai, jfi_wai, jfl_wai, jfr_wai, jai_wai, jal_wai, jar_wai, jsz_wai, jus_wai, jkd_wal, jln_wal, jfi_wal, jfl_wal, jfr_wal, jai_wal, jal_wal, jar_wal, jsz_wal, jus_wal, jkd_war, jln_war, jfi_war, jfl_war, jfr_war, jai_war, jal_war, jar_war, jsz_war, jus_war, jkd_nwo, jln_nwo, jfi_nwo, jfl_nwo, jfr_nwo, jai_nwo, jal_nwo, jar_nwo, jsz_nwo, jus_nwo, jkd_nwa, jln_nwa, jfi_nwa, jfl_nwa, jfr_nwa, jai_nwa, jal_nwa, jar_nwa, jsz_nwa, jus_nwa, jkd_cpa, jln_cpa, jfi_cpa, jfl_cpa, jfr_cpa, jai_cpa, jal_cpa, jar_cpa, jsz_cpa, jus_cpa, hne, if_false], fun F q _ f2 => by simp only [jkd_wfi, jln_wfi, jfi_wfi, jfl_wfi, jfr_wfi, jai_wfi, jal_wfi, jar_wfi, jsz_wfi, jus_wfi, jkd_wfl, jln_wfl, jfi_wfl, jfl_wfl, jfr_wfl, jai_wfl, jal_wfl, jar_wfl, jsz_wfl, jus_wfl, jkd_wfr, jln_wfr, jfi_wfr, jfl_wfr, jfr_wfr, jai_wfr, jal_wfr, jar_wfr, jsz_wfr, jus_wfr, jkd_wai, jln_wai, jfi_wai, jfl_wai, jfr_wai, jai_wai, jal_wai, jar_wai, jsz_wai, jus_wai, jkd_wal, jln_wal, jfi_wal, jfl_wal, jfr_wal, jai_wal, jal_wal, jar_wal, jsz_wal, jus_wal, jkd_war, jln_war, jfi_war, jfl_war, jfr_war, jai_war, jal_war, jar_war, jsz_war, jus_war, jkd_nwo, jln_nwo, jfi_nwo, jfl_nwo, jfr_nwo, jai_nwo, jal_nwo, jar_nwo, jsz_nwo, jus_nwo, jkd_nwa, jln_nwa, jfi_nwa, jfl_nwa, jfr_nwa, jai_nwa, jal_nwa, jar_nwa, jsz_nwa, jus_nwa, jkd_cpa, jln_cpa, jfi_cpa, jfl_cpa, jfr_cpa, jai_cpa, jal_cpa, jar_cpa, jsz_cpa, jus_cpa, f2, false_and, if_false]⟩
/-- n characters from an array, or the fault 22001 -/
theorem k_cText {D : JD} {d : Nat} {h : JH} {c a off n : Nat} {xo xn : Int32} {s : List Int32} (hc : CelW D h c) (hx : xo = nI off) (hy : xn = nI n) (hs : s.length = n) (hn : n ≤ 100000) (ha : n ≠ 0 → a ≠ 0 ∧ a ≤ jsz h ∧ off + n ≤ jln h a ∧ jln h a < 2 ^ 30 ∧ a ≠ c) (hsv : ∀ i b, s[i]? = some b → jai h a (off + i) = b ∧ jby b) (hal : a = jfr h 67 c → off = 0) :
    cX14_text D (d + 8) c a xo xn h (pR D h 8 (fun v h' => v = c ∧ xTxt s = .ok (vTxt s) ∧ Cel D h' c (vTxt s) ∧ CelF h h' c) (fun x h' => xTxt s = xErr "22001" ∧ FtR h' x (sStr "22001") (-1) ∧ New h h' 1 8)) := by
  subst hx hy
  refine JW.inv fun hI => ?_
  have hq : StR h (jcs D 1) (sStr "22001") := by
    have := k_const hI (j := 1) (by decide)
    rwa [show jcon 1 = sStr "22001" by decide +kernel] at this
  refine t_X14_text ⟨fun z => ⟨hc.1, ?_⟩, fun z => ?_⟩
  · have hn40 : n ≤ 40 := (nI_leI (b := 40) (by omega) (by decide)).mp z
    rintro h1 rfl h2 rfl
    have f12 : CelF h (wfr (wfi h 65 c 0) 64 c (jcs D 346)) c := (CelF.fi _).tr (CelF.ty _)
    have w2 : CelW D (wfr (wfi h 65 c 0) 64 c (jcs D 346)) c := by
      obtain ⟨c1, c2, c3, c4, c5⟩ := hc
      have e : jfr (wfr (wfi h 65 c 0) 64 c (jcs D 346)) 67 c = jfr h 67 c := by simp only [jkd_wfi, jln_wfi, jfi_wfi, jfl_wfi, jfr_wfi, jai_wfi, jal_wfi, jar_wfi, jsz_wfi, jus_wfi, jkd_wfl, jln_wfl, jfi_wfl, jfl_wfl, jfr_wfl, jai_wfl, jal_wfl, jar_wfl, jsz_wfl, jus_wfl, jkd_wfr, jln_wfr, jfi_wfr, jfl_wfr, jfr_wfr, jai_wfr, jal_wfr, jar_wfr, jsz_wfr, jus_wfr, jkd_wai, jln_wai, jfi_wai, jfl_wai, jfr_wai, jai_wai, jal_wai, jar_wai, jsz_wai, jus_wai, jkd_wal, jln_wal, jfi_wal, jfl_wal, jfr_wal, jai_wal, jal_wal, jar_wal, jsz_wal, jus_wal, jkd_war, jln_war, jfi_war, jfl_war, jfr_war, jai_war, jal_war, jar_war, jsz_war, jus_war, jkd_nwo, jln_nwo, jfi_nwo, jfl_nwo, jfr_nwo, jai_nwo, jal_nwo, jar_nwo, jsz_nwo, jus_nwo, jkd_nwa, jln_nwa, jfi_nwa, jfl_nwa, jfr_nwa, jai_nwa, jal_nwa, jar_nwa, jsz_nwa, jus_nwa, jkd_cpa, jln_cpa, jfi_cpa, jfl_cpa, jfr_cpa, jai_cpa, jal_cpa, jar_cpa, jsz_cpa, jus_cpa, Nat.reduceEqDiff, false_and, if_false]
      exact ⟨c1, c2, c3, Or.inl (by simp only [jkd_wfi, jln_wfi, jfi_wfi, jfl_wfi, jfr_wfi, jai_wfi, jal_wfi, jar_wfi, jsz_wfi, jus_wfi, jkd_wfl, jln_wfl, jfi_wfl, jfl_wfl, jfr_wfl, jai_wfl, jal_wfl, jar_wfl, jsz_wfl, jus_wfl, jkd_wfr, jln_wfr, jfi_wfr, jfl_wfr, jfr_wfr, jai_wfr, jal_wfr, jar_wfr, jsz_wfr, jus_wfr, jkd_wai, jln_wai, jfi_wai, jfl_wai, jfr_wai, jai_wai, jal_wai, jar_wai, jsz_wai, jus_wai, jkd_wal, jln_wal, jfi_wal, jfl_wal, jfr_wal, jai_wal, jal_wal, jar_wal, jsz_wal, jus_wal, jkd_war, jln_war, jfi_war, jfl_war, jfr_war, jai_war, jal_war, jar_war, jsz_war, jus_war, jkd_nwo, jln_nwo, jfi_nwo, jfl_nwo, jfr_nwo, jai_nwo, jal_nwo, jar_nwo, jsz_nwo, jus_nwo, jkd_nwa, jln_nwa, jfi_nwa, jfl_nwa, jfr_nwa, jai_nwa, jal_nwa, jar_nwa, jsz_nwa, jus_nwa, jkd_cpa, jln_cpa, jfi_cpa, jfl_cpa, jfr_cpa, jai_cpa, jal_cpa, jar_cpa, jsz_cpa, jus_cpa, and_self, if_true]), by rw [e]; exact c5⟩
    refine useR0 (k_cRoom w2) ?_
    rintro v h3 hI3 _ ⟨v1, v2, v3, v4, v5, v6, v7, v8⟩
    subst v1
    have e65 : jfi h3 65 c = 0 := by rw [v5]; simp only [jkd_wfi, jln_wfi, jfi_wfi, jfl_wfi, jfr_wfi, jai_wfi, jal_wfi, jar_wfi, jsz_wfi, jus_wfi, jkd_wfl, jln_wfl, jfi_wfl, jfl_wfl, jfr_wfl, jai_wfl, jal_wfl, jar_wfl, jsz_wfl, jus_wfl, jkd_wfr, jln_wfr, jfi_wfr, jfl_wfr, jfr_wfr, jai_wfr, jal_wfr, jar_wfr, jsz_wfr, jus_wfr, jkd_wai, jln_wai, jfi_wai, jfl_wai, jfr_wai, jai_wai, jal_wai, jar_wai, jsz_wai, jus_wai, jkd_wal, jln_wal, jfi_wal, jfl_wal, jfr_wal, jai_wal, jal_wal, jar_wal, jsz_wal, jus_wal, jkd_war, jln_war, jfi_war, jfl_war, jfr_war, jai_war, jal_war, jar_war, jsz_war, jus_war, jkd_nwo, jln_nwo, jfi_nwo, jfl_nwo, jfr_nwo, jai_nwo, jal_nwo, jar_nwo, jsz_nwo, jus_nwo, jkd_nwa, jln_nwa, jfi_nwa, jfl_nwa, jfr_nwa, jai_nwa, jal_nwa, jar_nwa, jsz_nwa, jus_nwa, jkd_cpa, jln_cpa, jfi_cpa, jfl_cpa, jfr_cpa, jai_cpa, jal_cpa, jar_cpa, jsz_cpa, jus_cpa, and_self, if_true]
    have e64 : jfr h3 64 c = jcs D 346 := by rw [v7 64 (by decide)]; simp only [jkd_wfi, jln_wfi, jfi_wfi, jfl_wfi, jfr_wfi, jai_wfi, jal_wfi, jar_wfi, jsz_wfi, jus_wfi, jkd_wfl, jln_wfl, jfi_wfl, jfl_wfl, jfr_wfl, jai_wfl, jal_wfl, jar_wfl, jsz_wfl, jus_wfl, jkd_wfr, jln_wfr, jfi_wfr, jfl_wfr, jfr_wfr, jai_wfr, jal_wfr, jar_wfr, jsz_wfr, jus_wfr, jkd_wai, jln_wai, jfi_wai, jfl_wai, jfr_wai, jai_wai, jal_wai, jar_wai, jsz_wai, jus_wai, jkd_wal, jln_wal, jfi_wal, jfl_wal, jfr_wal, jai_wal, jal_wal, jar_wal, jsz_wal, jus_wal, jkd_war, jln_war, jfi_war, jfl_war, jfr_war, jai_war, jal_war, jar_war, jsz_war, jus_war, jkd_nwo, jln_nwo, jfi_nwo, jfl_nwo, jfr_nwo, jai_nwo, jal_nwo, jar_nwo, jsz_nwo, jus_nwo, jkd_nwa, jln_nwa, jfi_nwa, jfl_nwa, jfr_nwa, jai_nwa, jal_nwa, jar_nwa, jsz_nwa, jus_nwa, jkd_cpa, jln_cpa, jfi_cpa, jfl_cpa, jfr_cpa, jai_cpa, jal_cpa, jar_cpa, jsz_cpa, jus_cpa, and_self, if_true]
    have f3 : CelF h h3 c := f12.tr v4
    have loop : ∀ (Q : JO → JH → Prop) (k i : Nat) (h4 : JH), k = n - i → i ≤ n → CelF h h4 c → CelW D h4 c → jfr h4 67 c = jfr h3 67 c → jfi h4 65 c = 0 → jfr h4 64 c = jcs D 346 → (∀ j b, j < i → s[j]? = some b → jai h4 (jfr h3 67 c) j = b) → (a = jfr h 67 c → ∀ j b, i ≤ j → s[j]? = some b → jai h4 a j = b) →
        (∀ h5, Cel D h5 c (vTxt s) → CelF h h5 c → Q (.inl (some (vR 8 c))) h5) → L_X14_text_32 D (d + 7) Q (k + 1) c a (nI off) (nI n) (nI i) h4 := by
      intro Q k
      induction k with
      | zero =>
        intro i h4 hk hi g1 g2 g3 g4 g5 g6 g7 hQ
        refine ⟨fun _ => ⟨hc.1, ?_⟩, fun w => absurd (nI_le (by omega) (by omega)) w⟩
        rintro h5 rfl
        refine hQ _ ⟨?_, Or.inr ⟨?_, ?_, Or.inr (Or.inr ⟨s, rfl, ?_, by omega, ?_, fun j b hj => ?_⟩)⟩⟩ (g1.tr (CelF.fi _))
        · obtain ⟨c1, c2, c3, c4, c5⟩ := g2
          exact ⟨c1, c2, c3, by simpa only [jkd_wfi, jln_wfi, jfi_wfi, jfl_wfi, jfr_wfi, jai_wfi, jal_wfi, jar_wfi, jsz_wfi, jus_wfi, jkd_wfl, jln_wfl, jfi_wfl, jfl_wfl, jfr_wfl, jai_wfl, jal_wfl, jar_wfl, jsz_wfl, jus_wfl, jkd_wfr, jln_wfr, jfi_wfr, jfl_wfr, jfr_wfr, jai_wfr, jal_wfr, jar_wfr, jsz_wfr, jus_wfr, jkd_wai, jln_wai, jfi_wai, jfl_wai, jfr_wai, jai_wai, jal_wai, jar_wai, jsz_wai, jus_wai, jkd_wal, jln_wal, jfi_wal, jfl_wal, jfr_wal, jai_wal, jal_wal, jar_wal, jsz_wal, jus_wal, jkd_war, jln_war, jfi_war, jfl_war, jfr_war, jai_war, jal_war, jar_war, jsz_war, jus_war, jkd_nwo, jln_nwo, jfi_nwo, jfl_nwo, jfr_nwo, jai_nwo, jal_nwo, jar_nwo, jsz_nwo, jus_nwo, jkd_nwa, jln_nwa, jfi_nwa, jfl_nwa, jfr_nwa, jai_nwa, jal_nwa, jar_nwa, jsz_nwa, jus_nwa, jkd_cpa, jln_cpa, jfi_cpa, jfl_cpa, jfr_cpa, jai_cpa, jal_cpa, jar_cpa, jsz_cpa, jus_cpa, Nat.reduceEqDiff, false_and, if_false] using c4, c5⟩
        · simp only [jkd_wfi, jln_wfi, jfi_wfi, jfl_wfi, jfr_wfi, jai_wfi, jal_wfi, jar_wfi, jsz_wfi, jus_wfi, jkd_wfl, jln_wfl, jfi_wfl, jfl_wfl, jfr_wfl, jai_wfl, jal_wfl, jar_wfl, jsz_wfl, jus_wfl, jkd_wfr, jln_wfr, jfi_wfr, jfl_wfr, jfr_wfr, jai_wfr, jal_wfr, jar_wfr, jsz_wfr, jus_wfr, jkd_wai, jln_wai, jfi_wai, jfl_wai, jfr_wai, jai_wai, jal_wai, jar_wai, jsz_wai, jus_wai, jkd_wal, jln_wal, jfi_wal, jfl_wal, jfr_wal, jai_wal, jal_wal, jar_wal, jsz_wal, jus_wal, jkd_war, jln_war, jfi_war, jfl_war, jfr_war, jai_war, jal_war, jar_war, jsz_war, jus_war, jkd_nwo, jln_nwo, jfi_nwo, jfl_nwo, jfr_nwo, jai_nwo, jal_nwo, jar_nwo, jsz_nwo, jus_nwo, jkd_nwa, jln_nwa, jfi_nwa, jfl_nwa, jfr_nwa, jai_nwa, jal_nwa, jar_nwa, jsz_nwa, jus_nwa, jkd_cpa, jln_cpa, jfi_cpa, jfl_cpa, jfr_cpa, jai_cpa, jal_cpa, jar_cpa, jsz_cpa, jus_cpa, Nat.reduceEqDiff, false_and, if_false]; exact g4
        · simp only [jkd_wfi, jln_wfi, jfi_wfi, jfl_wfi, jfr_wfi, jai_wfi, jal_wfi, jar_wfi, jsz_wfi, jus_wfi, jkd_wfl, jln_wfl, jfi_wfl, jfl_wfl, jfr_wfl, jai_wfl, jal_wfl, jar_wfl, jsz_wfl, jus_wfl, jkd_wfr, jln_wfr, jfi_wfr, jfl_wfr, jfr_wfr, jai_wfr, jal_wfr, jar_wfr, jsz_wfr, jus_wfr, jkd_wai, jln_wai, jfi_wai, jfl_wai, jfr_wai, jai_wai, jal_wai, jar_wai, jsz_wai, jus_wai, jkd_wal, jln_wal, jfi_wal, jfl_wal, jfr_wal, jai_wal, jal_wal, jar_wal, jsz_wal, jus_wal, jkd_war, jln_war, jfi_war, jfl_war, jfr_war, jai_war, jal_war, jar_war, jsz_war, jus_war, jkd_nwo, jln_nwo, jfi_nwo, jfl_nwo, jfr_nwo, jai_nwo, jal_nwo, jar_nwo, jsz_nwo, jus_nwo, jkd_nwa, jln_nwa, jfi_nwa, jfl_nwa, jfr_nwa, jai_nwa, jal_nwa, jar_nwa, jsz_nwa, jus_nwa, jkd_cpa, jln_cpa, jfi_cpa, jfl_cpa, jfr_cpa, jai_cpa, jal_cpa, jar_cpa, jsz_cpa, jus_cpa]; exact g5
        · simp only [jkd_wfi, jln_wfi, jfi_wfi, jfl_wfi, jfr_wfi, jai_wfi, jal_wfi, jar_wfi, jsz_wfi, jus_wfi, jkd_wfl, jln_wfl, jfi_wfl, jfl_wfl, jfr_wfl, jai_wfl, jal_wfl, jar_wfl, jsz_wfl, jus_wfl, jkd_wfr, jln_wfr, jfi_wfr, jfl_wfr, jfr_wfr, jai_wfr, jal_wfr, jar_wfr, jsz_wfr, jus_wfr, jkd_wai, jln_wai, jfi_wai, jfl_wai, jfr_wai, jai_wai, jal_wai, jar_wai, jsz_wai, jus_wai, jkd_wal, jln_wal, jfi_wal, jfl_wal, jfr_wal, jai_wal, jal_wal, jar_wal, jsz_wal, jus_wal, jkd_war, jln_war, jfi_war, jfl_war, jfr_war, jai_war, jal_war, jar_war, jsz_war, jus_war, jkd_nwo, jln_nwo, jfi_nwo, jfl_nwo, jfr_nwo, jai_nwo, jal_nwo, jar_nwo, jsz_nwo, jus_nwo, jkd_nwa, jln_nwa, jfi_nwa, jfl_nwa, jfr_nwa, jai_nwa, jal_nwa, jar_nwa, jsz_nwa, jus_nwa, jkd_cpa, jln_cpa, jfi_cpa, jfl_cpa, jfr_cpa, jai_cpa, jal_cpa, jar_cpa, jsz_cpa, jus_cpa]; rw [g3]; exact v2
        · simp only [jkd_wfi, jln_wfi, jfi_wfi, jfl_wfi, jfr_wfi, jai_wfi, jal_wfi, jar_wfi, jsz_wfi, jus_wfi, jkd_wfl, jln_wfl, jfi_wfl, jfl_wfl, jfr_wfl, jai_wfl, jal_wfl, jar_wfl, jsz_wfl, jus_wfl, jkd_wfr, jln_wfr, jfi_wfr, jfl_wfr, jfr_wfr, jai_wfr, jal_wfr, jar_wfr, jsz_wfr, jus_wfr, jkd_wai, jln_wai, jfi_wai, jfl_wai, jfr_wai, jai_wai, jal_wai, jar_wai, jsz_wai, jus_wai, jkd_wal, jln_wal, jfi_wal, jfl_wal, jfr_wal, jai_wal, jal_wal, jar_wal, jsz_wal, jus_wal, jkd_war, jln_war, jfi_war, jfl_war, jfr_war, jai_war, jal_war, jar_war, jsz_war, jus_war, jkd_nwo, jln_nwo, jfi_nwo, jfl_nwo, jfr_nwo, jai_nwo, jal_nwo, jar_nwo, jsz_nwo, jus_nwo, jkd_nwa, jln_nwa, jfi_nwa, jfl_nwa, jfr_nwa, jai_nwa, jal_nwa, jar_nwa, jsz_nwa, jus_nwa, jkd_cpa, jln_cpa, jfi_cpa, jfl_cpa, jfr_cpa, jai_cpa, jal_cpa, jar_cpa, jsz_cpa, jus_cpa, and_self, if_true, hs]
        · simp only [jkd_wfi, jln_wfi, jfi_wfi, jfl_wfi, jfr_wfi, jai_wfi, jal_wfi, jar_wfi, jsz_wfi, jus_wfi, jkd_wfl, jln_wfl, jfi_wfl, jfl_wfl, jfr_wfl, jai_wfl, jal_wfl, jar_wfl, jsz_wfl, jus_wfl, jkd_wfr, jln_wfr, jfi_wfr, jfl_wfr, jfr_wfr, jai_wfr, jal_wfr, jar_wfr, jsz_wfr, jus_wfr, jkd_wai, jln_wai, jfi_wai, jfl_wai, jfr_wai, jai_wai, jal_wai, jar_wai, jsz_wai, jus_wai, jkd_wal, jln_wal, jfi_wal, jfl_wal, jfr_wal, jai_wal, jal_wal, jar_wal, jsz_wal, jus_wal, jkd_war, jln_war, jfi_war, jfl_war, jfr_war, jai_war, jal_war, jar_war, jsz_war, jus_war, jkd_nwo, jln_nwo, jfi_nwo, jfl_nwo, jfr_nwo, jai_nwo, jal_nwo, jar_nwo, jsz_nwo, jus_nwo, jkd_nwa, jln_nwa, jfi_nwa, jfl_nwa, jfr_nwa, jai_nwa, jal_nwa, jar_nwa, jsz_nwa, jus_nwa, jkd_cpa, jln_cpa, jfi_cpa, jfl_cpa, jfr_cpa, jai_cpa, jal_cpa, jar_cpa, jsz_cpa, jus_cpa]; rw [g3]
          exact ⟨g6 j b (by have := (List.getElem?_eq_some_iff.mp hj).1; omega) hj, (hsv j b hj).2⟩
      | succ k ih =>
        intro i h4 hk hi g1 g2 g3 g4 g5 g6 g7 hQ
        have hi' : i < n := by omega
        obtain ⟨a1, a2, a3, a4, a5⟩ := ha (by omega)
        have hsi : s[i]? = some s[i] := List.getElem?_eq_getElem (by omega)
        have hval : jai h4 a (off + i) = s[i] := by
          by_cases ea : a = jfr h 67 c
          · rw [hal ea, Nat.zero_add]; exact g7 ea i _ (Nat.le_refl _) hsi
          · have := g1.1 a a2 (fun w => by rcases w with w | w; exact a5 w; exact ea w)
            rw [this.ai]; exact (hsv i _ hsi).1
        have hlen : jln h4 a = jln h a := by
          by_cases ea : a = jfr h 67 c
          · have h0 : jfr h 67 c ≠ 0 := by rw [← ea]; exact a1
            have h1 := hc.2.2.2.2
            have h2 := g2.2.2.2.2
            have e3 : jfr h4 67 c = jfr h 67 c := by
              rw [g3]
              have := v8 (by simp only [jkd_wfi, jln_wfi, jfi_wfi, jfl_wfi, jfr_wfi, jai_wfi, jal_wfi, jar_wfi, jsz_wfi, jus_wfi, jkd_wfl, jln_wfl, jfi_wfl, jfl_wfl, jfr_wfl, jai_wfl, jal_wfl, jar_wfl, jsz_wfl, jus_wfl, jkd_wfr, jln_wfr, jfi_wfr, jfl_wfr, jfr_wfr, jai_wfr, jal_wfr, jar_wfr, jsz_wfr, jus_wfr, jkd_wai, jln_wai, jfi_wai, jfl_wai, jfr_wai, jai_wai, jal_wai, jar_wai, jsz_wai, jus_wai, jkd_wal, jln_wal, jfi_wal, jfl_wal, jfr_wal, jai_wal, jal_wal, jar_wal, jsz_wal, jus_wal, jkd_war, jln_war, jfi_war, jfl_war, jfr_war, jai_war, jal_war, jar_war, jsz_war, jus_war, jkd_nwo, jln_nwo, jfi_nwo, jfl_nwo, jfr_nwo, jai_nwo, jal_nwo, jar_nwo, jsz_nwo, jus_nwo, jkd_nwa, jln_nwa, jfi_nwa, jfl_nwa, jfr_nwa, jai_nwa, jal_nwa, jar_nwa, jsz_nwa, jus_nwa, jkd_cpa, jln_cpa, jfi_cpa, jfl_cpa, jfr_cpa, jai_cpa, jal_cpa, jar_cpa, jsz_cpa, jus_cpa, Nat.reduceEqDiff, false_and, if_false]; exact h0)
              rw [this]; simp only [jkd_wfi, jln_wfi, jfi_wfi, jfl_wfi, jfr_wfi, jai_wfi, jal_wfi, jar_wfi, jsz_wfi, jus_wfi, jkd_wfl, jln_wfl, jfi_wfl, jfl_wfl, jfr_wfl, jai_wfl, jal_wfl, jar_wfl, jsz_wfl, jus_wfl, jkd_wfr, jln_wfr, jfi_wfr, jfl_wfr, jfr_wfr, jai_wfr, jal_wfr, jar_wfr, jsz_wfr, jus_wfr, jkd_wai, jln_wai, jfi_wai, jfl_wai, jfr_wai, jai_wai, jal_wai, jar_wai, jsz_wai, jus_wai, jkd_wal, jln_wal, jfi_wal, jfl_wal, jfr_wal, jai_wal, jal_wal, jar_wal, jsz_wal, jus_wal, jkd_war, jln_war, jfi_war, jfl_war, jfr_war, jai_war, jal_war, jar_war, jsz_war, jus_war, jkd_nwo, jln_nwo, jfi_nwo, jfl_nwo, jfr_nwo, jai_nwo, jal_nwo, jar_nwo, jsz_nwo, jus_nwo, jkd_nwa, jln_nwa, jfi_nwa, jfl_nwa, jfr_nwa, jai_nwa, jal_nwa, jar_nwa, jsz_nwa, jus_nwa, jkd_cpa, jln_cpa, jfi_cpa, jfl_cpa, jfr_cpa, jai_cpa, jal_cpa, jar_cpa, jsz_cpa, jus_cpa, Nat.reduceEqDiff, false_and, if_false]
            rw [e3, ← ea] at h2
            rw [← ea] at h1
            rcases h1 with w | w
            · exact absurd w a1
            · rcases h2 with w2 | w2
              · exact absurd w2 a1
              · rw [w.2.1, w2.2.1]
          · exact (g1.1 a a2 (fun w => by rcases w with w | w; exact a5 w; exact ea w)).ln
        have hln40 : jln h4 (jfr h4 67 c) = 40 := by
          rcases g2.2.2.2.2 with w | w
          · rw [g3] at w; exact absurd w v2
          · exact w.2.1
        refine ⟨fun w => absurd w (nI_ge hi' (by omega)), fun _ => ⟨hc.1, a1, by rw [nI_add, hlen]; exact jin_nI (by omega) (by omega), by rw [g3]; exact v2, by rw [hln40]; exact jin_nI (by omega) (by decide), ?_⟩⟩
        rintro h5 rfl
        rw [nI_1, nI_add, ixn_nI (by omega), ixn_nI (by omega), hval]
        have hby := (hsv i _ hsi).2
        rw [show (Int32.toInt8 s[i]).toInt32 = s[i] from hby]
        refine ih (i + 1) _ (by omega) (by omega) (g1.tr (CelF.ai _)) ?_ g3 g4 g5 ?_ ?_ hQ
        · obtain ⟨c1, c2, c3, c4, c5⟩ := g2
          refine ⟨c1, c2, c3, c4, ?_⟩
          rcases c5 with w | w
          · exact Or.inl w
          · refine Or.inr ⟨w.1, w.2.1, fun j hj => ?_⟩
            simp only [jkd_wfi, jln_wfi, jfi_wfi, jfl_wfi, jfr_wfi, jai_wfi, jal_wfi, jar_wfi, jsz_wfi, jus_wfi, jkd_wfl, jln_wfl, jfi_wfl, jfl_wfl, jfr_wfl, jai_wfl, jal_wfl, jar_wfl, jsz_wfl, jus_wfl, jkd_wfr, jln_wfr, jfi_wfr, jfl_wfr, jfr_wfr, jai_wfr, jal_wfr, jar_wfr, jsz_wfr, jus_wfr, jkd_wai, jln_wai, jfi_wai, jfl_wai, jfr_wai, jai_wai, jal_wai, jar_wai, jsz_wai, jus_wai, jkd_wal, jln_wal, jfi_wal, jfl_wal, jfr_wal, jai_wal, jal_wal, jar_wal, jsz_wal, jus_wal, jkd_war, jln_war, jfi_war, jfl_war, jfr_war, jai_war, jal_war, jar_war, jsz_war, jus_war, jkd_nwo, jln_nwo, jfi_nwo, jfl_nwo, jfr_nwo, jai_nwo, jal_nwo, jar_nwo, jsz_nwo, jus_nwo, jkd_nwa, jln_nwa, jfi_nwa, jfl_nwa, jfr_nwa, jai_nwa, jal_nwa, jar_nwa, jsz_nwa, jus_nwa, jkd_cpa, jln_cpa, jfi_cpa, jfl_cpa, jfr_cpa, jai_cpa, jal_cpa, jar_cpa, jsz_cpa, jus_cpa]
            split
            · exact hby
            · exact w.2.2 j hj
        · intro j b hj hjb
          simp only [jkd_wfi, jln_wfi, jfi_wfi, jfl_wfi, jfr_wfi, jai_wfi, jal_wfi, jar_wfi, jsz_wfi, jus_wfi, jkd_wfl, jln_wfl, jfi_wfl, jfl_wfl, jfr_wfl, jai_wfl, jal_wfl, jar_wfl, jsz_wfl, jus_wfl, jkd_wfr, jln_wfr, jfi_wfr, jfl_wfr, jfr_wfr, jai_wfr, jal_wfr, jar_wfr, jsz_wfr, jus_wfr, jkd_wai, jln_wai, jfi_wai, jfl_wai, jfr_wai, jai_wai, jal_wai, jar_wai, jsz_wai, jus_wai, jkd_wal, jln_wal, jfi_wal, jfl_wal, jfr_wal, jai_wal, jal_wal, jar_wal, jsz_wal, jus_wal, jkd_war, jln_war, jfi_war, jfl_war, jfr_war, jai_war, jal_war, jar_war, jsz_war, jus_war, jkd_nwo, jln_nwo, jfi_nwo, jfl_nwo, jfr_nwo, jai_nwo, jal_nwo, jar_nwo, jsz_nwo, jus_nwo, jkd_nwa, jln_nwa, jfi_nwa, jfl_nwa, jfr_nwa, jai_nwa, jal_nwa, jar_nwa, jsz_nwa, jus_nwa, jkd_cpa, jln_cpa, jfi_cpa, jfl_cpa, jfr_cpa, jai_cpa, jal_cpa, jar_cpa, jsz_cpa, jus_cpa, g3, true_and]
          by_cases ej : j = i
          · subst ej; rw [if_pos rfl]; exact Option.some.inj (hsi.symm.trans hjb)
          · rw [if_neg ej]; exact g6 j b (by omega) hjb
        · intro ea j b hj hjb
          simp only [jkd_wfi, jln_wfi, jfi_wfi, jfl_wfi, jfr_wfi, jai_wfi, jal_wfi, jar_wfi, jsz_wfi, jus_wfi, jkd_wfl, jln_wfl, jfi_wfl, jfl_wfl, jfr_wfl, jai_wfl, jal_wfl, jar_wfl, jsz_wfl, jus_wfl, jkd_wfr, jln_wfr, jfi_wfr, jfl_wfr, jfr_wfr, jai_wfr, jal_wfr, jar_wfr, jsz_wfr, jus_wfr, jkd_wai, jln_wai, jfi_wai, jfl_wai, jfr_wai, jai_wai, jal_wai, jar_wai, jsz_wai, jus_wai, jkd_wal, jln_wal, jfi_wal, jfl_wal, jfr_wal, jai_wal, jal_wal, jar_wal, jsz_wal, jus_wal, jkd_war, jln_war, jfi_war, jfl_war, jfr_war, jai_war, jal_war, jar_war, jsz_war, jus_war, jkd_nwo, jln_nwo, jfi_nwo, jfl_nwo, jfr_nwo, jai_nwo, jal_nwo, jar_nwo, jsz_nwo, jus_nwo, jkd_nwa, jln_nwa, jfi_nwa, jfl_nwa, jfr_nwa, jai_nwa, jal_nwa, jar_nwa, jsz_nwa, jus_nwa, jkd_cpa, jln_cpa, jfi_cpa, jfl_cpa, jfr_cpa, jai_cpa, jal_cpa, jar_cpa, jsz_cpa, jus_cpa]
          rw [if_neg fun w => by omega]
          exact g7 ea j b (by omega) hjb
    refine ⟨n + 1, loop _ n 0 h3 (by omega) (by omega) f3 v3 rfl e65 e64 (fun j b hj => absurd hj (by omega)) (fun ea j b _ hjb => ?_) fun h5 c5 f5 => endR fun _ _ _ => ⟨rfl, ?_, c5, f5⟩⟩
    · have h0 : jfr h 67 c ≠ 0 := by
        rw [← ea]; exact (ha (by have := (List.getElem?_eq_some_iff.mp hjb).1; omega)).1
      have := v8 (by simp only [jkd_wfi, jln_wfi, jfi_wfi, jfl_wfi, jfr_wfi, jai_wfi, jal_wfi, jar_wfi, jsz_wfi, jus_wfi, jkd_wfl, jln_wfl, jfi_wfl, jfl_wfl, jfr_wfl, jai_wfl, jal_wfl, jar_wfl, jsz_wfl, jus_wfl, jkd_wfr, jln_wfr, jfi_wfr, jfl_wfr, jfr_wfr, jai_wfr, jal_wfr, jar_wfr, jsz_wfr, jus_wfr, jkd_wai, jln_wai, jfi_wai, jfl_wai, jfr_wai, jai_wai, jal_wai, jar_wai, jsz_wai, jus_wai, jkd_wal, jln_wal, jfi_wal, jfl_wal, jfr_wal, jai_wal, jal_wal, jar_wal, jsz_wal, jus_wal, jkd_war, jln_war, jfi_war, jfl_war, jfr_war, jai_war, jal_war, jar_war, jsz_war, jus_war, jkd_nwo, jln_nwo, jfi_nwo, jfl_nwo, jfr_nwo, jai_nwo, jal_nwo, jar_nwo, jsz_nwo, jus_nwo, jkd_nwa, jln_nwa, jfi_nwa, jfl_nwa, jfr_nwa, jai_nwa, jal_nwa, jar_nwa, jsz_nwa, jus_nwa, jkd_cpa, jln_cpa, jfi_cpa, jfl_cpa, jfr_cpa, jai_cpa, jal_cpa, jar_cpa, jsz_cpa, jus_cpa, Nat.reduceEqDiff, false_and, if_false]; exact h0)
      rw [this]
      simp only [jkd_wfi, jln_wfi, jfi_wfi, jfl_wfi, jfr_wfi, jai_wfi, jal_wfi, jar_wfi, jsz_wfi, jus_wfi, jkd_wfl, jln_wfl, jfi_wfl, jfl_wfl, jfr_wfl, jai_wfl, jal_wfl, jar_wfl, jsz_wfl, jus_wfl, jkd_wfr, jln_wfr, jfi_wfr, jfl_wfr, jfr_wfr, jai_wfr, jal_wfr, jar_wfr, jsz_wfr, jus_wfr, jkd_wai, jln_wai, jfi_wai, jfl_wai, jfr_wai, jai_wai, jal_wai, jar_wai, jsz_wai, jus_wai, jkd_wal, jln_wal, jfi_wal, jfl_wal, jfr_wal, jai_wal, jal_wal, jar_wal, jsz_wal, jus_wal, jkd_war, jln_war, jfi_war, jfl_war, jfr_war, jai_war, jal_war, jar_war, jsz_war, jus_war, jkd_nwo, jln_nwo, jfi_nwo, jfl_nwo, jfr_nwo, jai_nwo, jal_nwo, jar_nwo, jsz_nwo, jus_nwo, jkd_nwa, jln_nwa, jfi_nwa, jfl_nwa, jfr_nwa, jai_nwa, jal_nwa, jar_nwa, jsz_nwa, jus_nwa, jkd_cpa, jln_cpa, jfi_cpa, jfl_cpa, jfr_cpa, jai_cpa, jal_cpa, jar_cpa, jsz_cpa, jus_cpa]
      have q := (hsv j b hjb).1
      rwa [hal ea, Nat.zero_add] at q
    · unfold xTxt; rw [if_pos (by omega)]
  · have hn40 : ¬ n ≤ 40 := fun w => z (nI_le (b := 40) w (by decide))
    refine useR0 (k_fault hq) ?_
    rintro v h1 _ _ ⟨f1, f2⟩
    exact ⟨f1.1, endX fun _ _ => ⟨by unfold xTxt; rw [if_neg (by omega)], f1, f2⟩⟩
theorem Cel.w {D : JD} {h : JH} {c : Nat} {v : Val} (hc : Cel D h c v) : CelW D h c := hc.1
theorem tyc_ne {D : JD} {h : JH} (hI : JInv D h) {s t : Nat} (hs : s = 0 ∨ s = 16 ∨ s = 20 ∨ s = 25) (ht : t = 0 ∨ t = 16 ∨ t = 20 ∨ t = 25) (e : tyc D s = tyc D t) : s = t := by
  have key := hI.2.2.2.2.2.2.2.2.2
  unfold tyc at e
  have inj : ∀ i j, i < 373 → jenm i = true → j < 373 → jenm j = true → jcs D i = jcs D j → i = j := fun i j h1 h2 h3 h4 h5 => (key j h3 h4).2.2.2.2 i h1 h2 h5
  rcases hs with rfl | rfl | rfl | rfl <;> rcases ht with rfl | rfl | rfl | rfl <;> first | rfl | (exact absurd (inj _ _ (by decide) (by decide) (by decide) (by decide) e) (by decide))
/-- the value of another cell -/
theorem k_cCopy {D : JD} {d : Nat} {h : JH} {c o : Nat} {v : Val} (hc : CelW D h c) (ho : Cel D h o v) (ht : TX h) :
    cX14_copy D (d + 9) c o h (pR D h 8 (fun r h' => r = c ∧ Cel D h' c v ∧ CelF h h' c) no) := by
  refine JW.inv fun hI => ?_
  refine t_X14_copy ⟨fun hne => ⟨ho.1.1, hc.1, ho.1.2.2.2.1, ?_⟩, fun e => endR fun _ _ _ => ⟨rfl, e ▸ ho, CelF.rf h c⟩⟩
  rintro h1 rfl h2 rfl h3 rfl
  have hol := ho.1.lt hI
  have so : same h (wfl (wfr (wfi h 65 c (jfi h 65 o)) 64 c (jfr (wfi h 65 c (jfi h 65 o)) 64 o)) 66 c (jfl (wfr (wfi h 65 c (jfi h 65 o)) 64 c (jfr (wfi h 65 c (jfi h 65 o)) 64 o)) 66 o)) o := ((same_wfi hne).tr (same_wfr hne)).tr (same_wfl hne)
  have f3 : CelF h (wfl (wfr (wfi h 65 c (jfi h 65 o)) 64 c (jfr (wfi h 65 c (jfi h 65 o)) 64 o)) 66 c (jfl (wfr (wfi h 65 c (jfi h 65 o)) 64 c (jfr (wfi h 65 c (jfi h 65 o)) 64 o)) 66 o)) c := ((CelF.fi _).tr (CelF.ty _)).tr (CelF.fl _)
  have e65 : jfi (wfl (wfr (wfi h 65 c (jfi h 65 o)) 64 c (jfr (wfi h 65 c (jfi h 65 o)) 64 o)) 66 c (jfl (wfr (wfi h 65 c (jfi h 65 o)) 64 c (jfr (wfi h 65 c (jfi h 65 o)) 64 o)) 66 o)) 65 c = jfi h 65 o := by simp only [jkd_wfi, jln_wfi, jfi_wfi, jfl_wfi, jfr_wfi, jai_wfi, jal_wfi, jar_wfi, jsz_wfi, jus_wfi, jkd_wfl, jln_wfl, jfi_wfl, jfl_wfl, jfr_wfl, jai_wfl, jal_wfl, jar_wfl, jsz_wfl, jus_wfl, jkd_wfr, jln_wfr, jfi_wfr, jfl_wfr, jfr_wfr, jai_wfr, jal_wfr, jar_wfr, jsz_wfr, jus_wfr, jkd_wai, jln_wai, jfi_wai, jfl_wai, jfr_wai, jai_wai, jal_wai, jar_wai, jsz_wai, jus_wai, jkd_wal, jln_wal, jfi_wal, jfl_wal, jfr_wal, jai_wal, jal_wal, jar_wal, jsz_wal, jus_wal, jkd_war, jln_war, jfi_war, jfl_war, jfr_war, jai_war, jal_war, jar_war, jsz_war, jus_war, jkd_nwo, jln_nwo, jfi_nwo, jfl_nwo, jfr_nwo, jai_nwo, jal_nwo, jar_nwo, jsz_nwo, jus_nwo, jkd_nwa, jln_nwa, jfi_nwa, jfl_nwa, jfr_nwa, jai_nwa, jal_nwa, jar_nwa, jsz_nwa, jus_nwa, jkd_cpa, jln_cpa, jfi_cpa, jfl_cpa, jfr_cpa, jai_cpa, jal_cpa, jar_cpa, jsz_cpa, jus_cpa, and_self, if_true]
  have e64 : jfr (wfl (wfr (wfi h 65 c (jfi h 65 o)) 64 c (jfr (wfi h 65 c (jfi h 65 o)) 64 o)) 66 c (jfl (wfr (wfi h 65 c (jfi h 65 o)) 64 c (jfr (wfi h 65 c (jfi h 65 o)) 64 o)) 66 o)) 64 c = jfr h 64 o := by simp only [jkd_wfi, jln_wfi, jfi_wfi, jfl_wfi, jfr_wfi, jai_wfi, jal_wfi, jar_wfi, jsz_wfi, jus_wfi, jkd_wfl, jln_wfl, jfi_wfl, jfl_wfl, jfr_wfl, jai_wfl, jal_wfl, jar_wfl, jsz_wfl, jus_wfl, jkd_wfr, jln_wfr, jfi_wfr, jfl_wfr, jfr_wfr, jai_wfr, jal_wfr, jar_wfr, jsz_wfr, jus_wfr, jkd_wai, jln_wai, jfi_wai, jfl_wai, jfr_wai, jai_wai, jal_wai, jar_wai, jsz_wai, jus_wai, jkd_wal, jln_wal, jfi_wal, jfl_wal, jfr_wal, jai_wal, jal_wal, jar_wal, jsz_wal, jus_wal, jkd_war, jln_war, jfi_war, jfl_war, jfr_war, jai_war, jal_war, jar_war, jsz_war, jus_war, jkd_nwo, jln_nwo, jfi_nwo, jfl_nwo, jfr_nwo, jai_nwo, jal_nwo, jar_nwo, jsz_nwo, jus_nwo, jkd_nwa, jln_nwa, jfi_nwa, jfl_nwa, jfr_nwa, jai_nwa, jal_nwa, jar_nwa, jsz_nwa, jus_nwa, jkd_cpa, jln_cpa, jfi_cpa, jfl_cpa, jfr_cpa, jai_cpa, jal_cpa, jar_cpa, jsz_cpa, jus_cpa, and_self, if_true]
  have e66 : jfl (wfl (wfr (wfi h 65 c (jfi h 65 o)) 64 c (jfr (wfi h 65 c (jfi h 65 o)) 64 o)) 66 c (jfl (wfr (wfi h 65 c (jfi h 65 o)) 64 c (jfr (wfi h 65 c (jfi h 65 o)) 64 o)) 66 o)) 66 c = jfl h 66 o := by simp only [jkd_wfi, jln_wfi, jfi_wfi, jfl_wfi, jfr_wfi, jai_wfi, jal_wfi, jar_wfi, jsz_wfi, jus_wfi, jkd_wfl, jln_wfl, jfi_wfl, jfl_wfl, jfr_wfl, jai_wfl, jal_wfl, jar_wfl, jsz_wfl, jus_wfl, jkd_wfr, jln_wfr, jfi_wfr, jfl_wfr, jfr_wfr, jai_wfr, jal_wfr, jar_wfr, jsz_wfr, jus_wfr, jkd_wai, jln_wai, jfi_wai, jfl_wai, jfr_wai, jai_wai, jal_wai, jar_wai, jsz_wai, jus_wai, jkd_wal, jln_wal, jfi_wal, jfl_wal, jfr_wal, jai_wal, jal_wal, jar_wal, jsz_wal, jus_wal, jkd_war, jln_war, jfi_war, jfl_war, jfr_war, jai_war, jal_war, jar_war, jsz_war, jus_war, jkd_nwo, jln_nwo, jfi_nwo, jfl_nwo, jfr_nwo, jai_nwo, jal_nwo, jar_nwo, jsz_nwo, jus_nwo, jkd_nwa, jln_nwa, jfi_nwa, jfl_nwa, jfr_nwa, jai_nwa, jal_nwa, jar_nwa, jsz_nwa, jus_nwa, jkd_cpa, jln_cpa, jfi_cpa, jfl_cpa, jfr_cpa, jai_cpa, jal_cpa, jar_cpa, jsz_cpa, jus_cpa, and_self, if_true]
  have e67 : jfr (wfl (wfr (wfi h 65 c (jfi h 65 o)) 64 c (jfr (wfi h 65 c (jfi h 65 o)) 64 o)) 66 c (jfl (wfr (wfi h 65 c (jfi h 65 o)) 64 c (jfr (wfi h 65 c (jfi h 65 o)) 64 o)) 66 o)) 67 c = jfr h 67 c := by simp only [jkd_wfi, jln_wfi, jfi_wfi, jfl_wfi, jfr_wfi, jai_wfi, jal_wfi, jar_wfi, jsz_wfi, jus_wfi, jkd_wfl, jln_wfl, jfi_wfl, jfl_wfl, jfr_wfl, jai_wfl, jal_wfl, jar_wfl, jsz_wfl, jus_wfl, jkd_wfr, jln_wfr, jfi_wfr, jfl_wfr, jfr_wfr, jai_wfr, jal_wfr, jar_wfr, jsz_wfr, jus_wfr, jkd_wai, jln_wai, jfi_wai, jfl_wai, jfr_wai, jai_wai, jal_wai, jar_wai, jsz_wai, jus_wai, jkd_wal, jln_wal, jfi_wal, jfl_wal, jfr_wal, jai_wal, jal_wal, jar_wal, jsz_wal, jus_wal, jkd_war, jln_war, jfi_war, jfl_war, jfr_war, jai_war, jal_war, jar_war, jsz_war, jus_war, jkd_nwo, jln_nwo, jfi_nwo, jfl_nwo, jfr_nwo, jai_nwo, jal_nwo, jar_nwo, jsz_nwo, jus_nwo, jkd_nwa, jln_nwa, jfi_nwa, jfl_nwa, jfr_nwa, jai_nwa, jal_nwa, jar_nwa, jsz_nwa, jus_nwa, jkd_cpa, jln_cpa, jfi_cpa, jfl_cpa, jfr_cpa, jai_cpa, jal_cpa, jar_cpa, jsz_cpa, jus_cpa, Nat.reduceEqDiff, false_and, if_false]
  have ekd : ∀ q, jkd (wfl (wfr (wfi h 65 c (jfi h 65 o)) 64 c (jfr (wfi h 65 c (jfi h 65 o)) 64 o)) 66 c (jfl (wfr (wfi h 65 c (jfi h 65 o)) 64 c (jfr (wfi h 65 c (jfi h 65 o)) 64 o)) 66 o)) q = jkd h q := fun q => rfl
  have eln : ∀ q, jln (wfl (wfr (wfi h 65 c (jfi h 65 o)) 64 c (jfr (wfi h 65 c (jfi h 65 o)) 64 o)) 66 c (jfl (wfr (wfi h 65 c (jfi h 65 o)) 64 c (jfr (wfi h 65 c (jfi h 65 o)) 64 o)) 66 o)) q = jln h q := fun q => rfl
  have eai : ∀ q i, jai (wfl (wfr (wfi h 65 c (jfi h 65 o)) 64 c (jfr (wfi h 65 c (jfi h 65 o)) 64 o)) 66 c (jfl (wfr (wfi h 65 c (jfi h 65 o)) 64 c (jfr (wfi h 65 c (jfi h 65 o)) 64 o)) 66 o)) q i = jai h q i := fun q i => rfl
  have esz : jsz (wfl (wfr (wfi h 65 c (jfi h 65 o)) 64 c (jfr (wfi h 65 c (jfi h 65 o)) 64 o)) 66 c (jfl (wfr (wfi h 65 c (jfi h 65 o)) 64 c (jfr (wfi h 65 c (jfi h 65 o)) 64 o)) 66 o)) = jsz h := rfl
  generalize (wfl (wfr (wfi h 65 c (jfi h 65 o)) 64 c (jfr (wfi h 65 c (jfi h 65 o)) 64 o)) 66 c (jfl (wfr (wfi h 65 c (jfi h 65 o)) 64 c (jfr (wfi h 65 c (jfi h 65 o)) 64 o)) 66 o)) = g at so f3 e65 e64 e66 e67 ekd eln eai esz ⊢
  have wg : CelW D g c := by
    obtain ⟨c1, c2, c3, c4, c5⟩ := hc
    unfold CelW
    rw [ekd, e65, e67, ekd, eln]
    exact ⟨c1, c2, c3, ho.1.2.2.2.1, by simpa only [eai] using c5⟩
  refine ⟨fun z => ?_, fun z => ⟨fun z2 => ?_, fun z2 => ?_⟩⟩
  · rw [e65] at z
    rcases ho.2 with ⟨rfl, w⟩ | ⟨w, -⟩
    · exact endR fun _ _ _ => ⟨rfl, ⟨wg, Or.inl ⟨rfl, by rw [e65]; exact w⟩⟩, f3⟩
    · exact absurd w z
  · rw [e64] at z2
    rw [e65] at z
    rcases ho.2 with ⟨rfl, w⟩ | ⟨w1, w2, w3⟩
    · rw [w] at z; exact absurd z (by decide)
    · refine endR fun _ _ _ => ⟨rfl, ⟨wg, Or.inr ⟨by rw [e65]; exact w1, by rw [e64]; exact w2, ?_⟩⟩, f3⟩
      rw [e66]
      rcases w3 with y | y | ⟨s, rfl, -⟩
      · exact Or.inl y
      · exact Or.inr (Or.inl y)
      · exact absurd w2 z2
  · rw [e64] at z2
    rw [e65] at z
    rcases ho.2 with ⟨rfl, w⟩ | ⟨w1, w2, w3⟩
    · rw [w] at z; exact absurd z (by decide)
    · have hv : v.1 = 25 := by
        have h1 : v.1 = 0 ∨ v.1 = 16 ∨ v.1 = 20 ∨ v.1 = 25 := by
          rcases w3 with ⟨b, rfl, -⟩ | ⟨n, rfl, -⟩ | ⟨s, rfl, -⟩
          · exact Or.inr (Or.inl rfl)
          · exact Or.inr (Or.inr (Or.inl rfl))
          · exact Or.inr (Or.inr (Or.inr rfl))
        exact tyc_ne hI h1 (Or.inr (Or.inr (Or.inr rfl))) (w2.symm.trans z2)
      rcases w3 with ⟨b, rfl, -⟩ | ⟨n, rfl, -⟩ | ⟨s, rfl, y2, y3, y4, y5⟩
      · cases hv
      · cases hv
      · rw [so.fr, so.fi, y4]
        have h144 : jkd h (jfr h 67 o) = 144 ∧ jln h (jfr h 67 o) = 40 := by
          rcases ho.1.2.2.2.2 with q | q
          · exact absurd q y2
          · exact ⟨q.1, q.2.1⟩
        refine useR (k_cText (s := s) (off := 0) (n := s.length) wg rfl rfl rfl (by omega) (fun _ => ⟨y2, by rw [esz]; exact hol.2, by rw [eln, h144.2]; omega, by rw [eln, h144.2]; decide, fun e => by have := hc.2.1; rw [← e, h144.1] at this; cases this⟩) (fun i b hb => by rw [Nat.zero_add, eai]; exact y5 i b hb) (fun _ => rfl)) ?_ ?_
        · rintro r h4 _ _ ⟨rfl, -, c4, f4⟩
          exact endR fun _ _ _ => ⟨rfl, c4, f3.tr f4⟩
        · rintro x h4 _ _ ⟨q, -⟩
          unfold xTxt at q
          rw [if_pos (by omega)] at q
          cases q
theorem k_cEmpty {D : JD} {d : Nat} {h : JH} {c : Nat} {v : Val} (hc : Cel D h c v) : cX14_isEmpty D (d + 1) c h (pI D h (fun x h' => x = (if v.1 = 0 then 1 else 0) ∧ h' = h) no) := by
  refine t_X14_isEmpty ⟨hc.1.1, hc.1.2.2.2.1, endI fun _ _ => ⟨?_, rfl⟩⟩
  rcases hc.2 with ⟨rfl, w⟩ | ⟨w1, w2, w3⟩
  · rw [w]; rfl
  · rw [w1]
    rcases w3 with ⟨b, rfl, -⟩ | ⟨n, rfl, -⟩ | ⟨s, rfl, -⟩ <;> rfl
theorem k_cTrue {D : JD} {d : Nat} {h : JH} {c : Nat} {v : Val} (hc : Cel D h c v) (hv : v.1 = 0 ∨ v.1 = 16) : cX14_isTrue D (d + 1) c h (pI D h (fun x h' => x = (if vTrue v then 1 else 0) ∧ h' = h) no) := by
  rcases hc.2 with ⟨rfl, w⟩ | ⟨w1, w2, w3⟩
  · exact t_X14_isTrue ⟨hc.1.1, fun _ => ⟨jbo0, endI fun _ _ => ⟨rfl, rfl⟩⟩, fun z => absurd z (by rw [w]; decide)⟩
  · rcases w3 with ⟨b, rfl, y⟩ | ⟨n, rfl, -⟩ | ⟨s, rfl, -⟩
    · refine t_X14_isTrue ⟨hc.1.1, fun z => absurd w1 z, fun _ => ⟨fun z => ⟨jbo0, endI fun _ _ => ⟨?_, rfl⟩⟩, fun z => ⟨jbo1, endI fun _ _ => ⟨?_, rfl⟩⟩⟩⟩
      · rw [cmp_eq, y] at z
        cases b
        · rfl
        · exact absurd rfl z
      · rw [cmp_eq, y] at z
        cases b
        · cases z
        · rfl
    · rcases hv with e | e <;> cases e
    · rcases hv with e | e <;> cases e
theorem k_cNum {D : JD} {d : Nat} {h : JH} {c : Nat} (h0 : c ≠ 0) : cX14_number_2 D (d + 1) c h (pL D h (fun x h' => x = jfl h 66 c ∧ h' = h) no) := t_X14_number_2 ⟨h0, endL fun _ _ => ⟨rfl, rfl⟩⟩
theorem k_cSize {D : JD} {d : Nat} {h : JH} {c : Nat} (h0 : c ≠ 0) : cX14_size D (d + 1) c h (pI D h (fun x h' => x = jfi h 68 c ∧ h' = h) no) := t_X14_size ⟨h0, endI fun _ _ => ⟨rfl, rfl⟩⟩
theorem k_cBytes {D : JD} {d : Nat} {h : JH} {c : Nat} (h0 : c ≠ 0) : cX14_bytes D (d + 1) c h (pR D h 65 (fun x h' => x = jfr h 67 c ∧ h' = h) no) := t_X14_bytes ⟨h0, endR fun _ _ _ => ⟨rfl, rfl⟩⟩
theorem k_cmpL {D : JD} {d : Nat} {h : JH} {x y : Int64} : cJ18_compare D (d + 1) x y h (pI D h (fun v h' => v = lg_cmp x y ∧ h' = h) no) := by
  refine t_J18_compare ?_
  rcases cmp3 x y with ⟨h1, h2, h3, h4⟩ | ⟨h1, h2, h3, h4⟩ | ⟨h1, h2, h3, h4⟩ <;> unfold T_J18_compare W_J18_compare_0 W_J18_compare_21 <;> rw [h4]
  · exact ⟨fun _ => ⟨fun _ => endI fun _ _ => ⟨rfl, rfl⟩, fun z => absurd z (by decide)⟩, fun z => absurd (by decide) z⟩
  · exact ⟨fun _ => ⟨fun z => absurd rfl z, fun _ => endI fun _ _ => ⟨rfl, rfl⟩⟩, fun z => absurd (by decide) z⟩
  · exact ⟨fun z => absurd z (by decide), fun _ => endI fun _ _ => ⟨rfl, rfl⟩⟩
