/-! what the twin answers -/
/-- the twin m holds the bytes bs of its answer -/
def TwO (h : JH) (m : Nat) (bs : List Int32) : Prop :=
  jkd h m = 41 ∧ m ≠ 0 ∧ jfr h 226 m ≠ 0 ∧ jkd h (jfr h 226 m) = 180 ∧ jfi h 227 m = nI bs.length ∧ 0 < jln h (jfr h 226 m) ∧ bs.length ≤ jln h (jfr h 226 m) ∧ jln h (jfr h 226 m) ≤ 1000000 ∧ ∀ i b, bs[i]? = some b → jai h (jfr h 226 m) i = b ∧ jby b
/-- from h to h' the twin's answer alone has changed, to bs -/
def TwS (h h' : JH) (m : Nat) (bs : List Int32) : Prop :=
  TwO h' m bs ∧ fr (jsz h) (fun q => q = m ∨ q = jfr h 226 m) h h' ∧ (jfr h' 226 m = jfr h 226 m ∨ jsz h < jfr h' 226 m) ∧ (∀ F, F ≠ 227 → F ≠ 237 → jfi h' F m = jfi h F m) ∧ (∀ F, jfl h' F m = jfl h F m) ∧ (∀ F q, F ≠ 226 → jfr h' F q = jfr h F q) ∧
  jsz h ≤ jsz h' ∧ jsz h' + Nat.log2 (jln h (jfr h 226 m)) ≤ jsz h + Nat.log2 (jln h' (jfr h' 226 m)) ∧ jus h ≤ jus h' ∧ jus h' + 2 * jln h (jfr h 226 m) ≤ jus h + 2 * jln h' (jfr h' 226 m)
theorem TwS.rf {h : JH} {m : Nat} {bs : List Int32} (ho : TwO h m bs) : TwS h h m bs :=
  ⟨ho, fr.rf _ _ _, Or.inl rfl, fun _ _ _ => rfl, fun _ => rfl, fun _ _ _ => rfl, Nat.le_refl _, Nat.le_refl _, Nat.le_refl _, Nat.le_refl _⟩
theorem TwS.tr {a b c : JH} {m : Nat} {bs bs' : List Int32} (h1 : TwS a b m bs) (h2 : TwS b c m bs') : TwS a c m bs' := by
  obtain ⟨a1, a2, a3, a4, a5, a6, a8, a9, a10, a11⟩ := h1
  obtain ⟨b1, b2, b3, b4, b5, b6, b8, b9, b10, b11⟩ := h2
  refine ⟨b1, a2.tr (b2.mono a8 fun q hq hz => ?_), ?_, fun F h1 h2 => (b4 F h1 h2).trans (a4 F h1 h2), fun F => (b5 F).trans (a5 F), fun F q h1 => (b6 F q h1).trans (a6 F q h1), by omega, by omega, by omega, by omega⟩
  · rcases hz with z | z
    · exact Or.inl z
    · rcases a3 with e | e
      · exact Or.inr (z.trans e)
      · omega
  · rcases b3 with e | e
    · rw [e]; exact a3
    · exact Or.inr (by omega)
theorem TwO.of {h h' : JH} {m : Nat} {bs : List Int32} (ho : TwO h m bs) (h1 : same h h' m) (h2 : same h h' (jfr h 226 m)) : TwO h' m bs := by
  obtain ⟨o0, o1, o2, o3, o4, o5, o6, o7, o8⟩ := ho
  unfold TwO
  rw [h1.kd, h1.fr, h1.fi, h2.kd, h2.ln]
  exact ⟨o0, o1, o2, o3, o4, o5, o6, o7, fun i b hb => by rw [h2.ai]; exact o8 i b hb⟩
/-- the byte itself, when there is room -/
theorem k_say51 {D : JD} {d : Nat} {h : JH} {m : Nat} {x : Int32} {bs : List Int32} {Q : JO → JH → Prop} (ho : TwO h m bs) (hlt : bs.length < jln h (jfr h 226 m)) (hQ : ∀ h', TwS h h' m (bs ++ [x.toInt8.toInt32]) → jfi h' 237 m = jfi h 237 m → Q (.inl none) h') : W_X8_say_51 D d Q m x h := by
  obtain ⟨o0, o1, o2, o3, o4, o5, o6, o7, o8⟩ := ho
  have hb : bs.length < 2 ^ 31 := by omega
  have hx := jby_b x
  have hx' : x.toInt8.toInt32.toInt8.toInt32 = x.toInt8.toInt32 := hx
  refine ⟨o1, o2, by rw [o4]; exact jin_nI hlt (by omega), ?_⟩
  rintro h1 rfl h2 rfl
  refine hQ _ ⟨?_, (fr_wai (Or.inl (Or.inr rfl))).tr (fr_wfi (Or.inl (Or.inl rfl))), Or.inl rfl, ?_, fun _ => rfl, fun _ _ _ => rfl, Nat.le_refl _, Nat.le_refl _, Nat.le_refl _, Nat.le_refl _⟩ rfl
  · simp only [TwO, jkd_wfi, jln_wfi, jfi_wfi, jfl_wfi, jfr_wfi, jai_wfi, jal_wfi, jar_wfi, jsz_wfi, jus_wfi, jkd_wfl, jln_wfl, jfi_wfl, jfl_wfl, jfr_wfl, jai_wfl, jal_wfl, jar_wfl, jsz_wfl, jus_wfl, jkd_wfr, jln_wfr, jfi_wfr, jfl_wfr, jfr_wfr, jai_wfr, jal_wfr, jar_wfr, jsz_wfr, jus_wfr, jkd_wai, jln_wai, jfi_wai, jfl_wai, jfr_wai, jai_wai, jal_wai, jar_wai, jsz_wai, jus_wai, jkd_wal, jln_wal, jfi_wal, jfl_wal, jfr_wal, jai_wal, jal_wal, jar_wal, jsz_wal, jus_wal, jkd_war, jln_war, jfi_war, jfl_war, jfr_war, jai_war, jal_war, jar_war, jsz_war, jus_war, jkd_nwo, jln_nwo, jfi_nwo, jfl_nwo, jfr_nwo, jai_nwo, jal_nwo, jar_nwo, jsz_nwo, jus_nwo, jkd_nwa, jln_nwa, jfi_nwa, jfl_nwa, jfr_nwa, jai_nwa, jal_nwa, jar_nwa, jsz_nwa, jus_nwa, jkd_cpa, jln_cpa, jfi_cpa, jfl_cpa, jfr_cpa, jai_cpa, jal_cpa, jar_cpa, jsz_cpa, jus_cpa, o4, ixn_nI hb, nI_1, List.length_append, List.length_singleton, true_and, and_self, if_true]
    refine ⟨o0, o1, o2, o3, o5, hlt, o7, fun i b hib => ?_⟩
    grind
  · intro F hF _; simp only [jkd_wfi, jln_wfi, jfi_wfi, jfl_wfi, jfr_wfi, jai_wfi, jal_wfi, jar_wfi, jsz_wfi, jus_wfi, jkd_wfl, jln_wfl, jfi_wfl, jfl_wfl, jfr_wfl, jai_wfl, jal_wfl, jar_wfl, jsz_wfl, jus_wfl, jkd_wfr, jln_wfr, jfi_wfr, jfl_wfr, jfr_wfr, jai_wfr, jal_wfr, jar_wfr, jsz_wfr, jus_wfr, jkd_wai, jln_wai, jfi_wai, jfl_wai, jfr_wai, jai_wai, jal_wai, jar_wai, jsz_wai, jus_wai, jkd_wal, jln_wal, jfi_wal, jfl_wal, jfr_wal, jai_wal, jal_wal, jar_wal, jsz_wal, jus_wal, jkd_war, jln_war, jfi_war, jfl_war, jfr_war, jai_war, jal_war, jar_war, jsz_war, jus_war, jkd_nwo, jln_nwo, jfi_nwo, jfl_nwo, jfr_nwo, jai_nwo, jal_nwo, jar_nwo, jsz_nwo, jus_nwo, jkd_nwa, jln_nwa, jfi_nwa, jfl_nwa, jfr_nwa, jai_nwa, jal_nwa, jar_nwa, jsz_nwa, jus_nwa, jkd_cpa, jln_cpa, jfi_cpa, jfl_cpa, jfr_cpa, jai_cpa, jal_cpa, jar_cpa, jsz_cpa, jus_cpa, hF, false_and, if_false]
theorem k_say {D : JD} {d : Nat} {h : JH} {m : Nat} {x : Int32} {bs : List Int32} (ho : TwO h m bs) (hn : bs.length < 500000) :
    cX8_say D (d + 1) m x h (pV D h (fun h' => TwS h h' m (bs ++ [x.toInt8.toInt32]) ∧ jfi h' 237 m = jfi h 237 m) no) := by
  refine JW.inv fun hI => t_X8_say ?_
  have ho' := ho
  obtain ⟨o0, o1, o2, o3, o4, o5, o6, o7, o8⟩ := ho
  have hlen : jln h (jfr h 226 m) < 2 ^ 31 := by omega
  have hb : bs.length < 2 ^ 31 := by omega
  have hlo : jfr h 226 m ≤ jsz h := hI.refl
  have hlo2 : m ≤ jsz h := hI.lt (by rw [o0]; decide)
  refine ⟨o1, o2, fun hc => ?_, fun hc => ?_⟩
  · have hlt : bs.length < jln h (jfr h 226 m) := by
      rcases Nat.lt_or_ge bs.length (jln h (jfr h 226 m)) with q | q
      · exact q
      · exact absurd (by rw [o4, show bs.length = jln h (jfr h 226 m) by omega]) hc
    exact k_say51 ho' hlt fun h' s e => endV fun _ _ => ⟨s, e⟩
  · have he : bs.length = jln h (jfr h 226 m) := (nI_eq hb hlen).mp (o4.symm.trans hc)
    have h2m : (2 : Int32) * jfi h 227 m = nI (2 * bs.length) := by rw [o4]; exact pk_mul 2 bs.length
    have hb0 : 0 < bs.length := by omega
    refine ⟨by rw [h2m]; exact jsm_nI (by omega), ?_⟩
    rintro r1 h1 rfl rfl
    rw [show ixn ((2 : Int32) * jfi h 227 m) = 2 * bs.length by rw [h2m]; exact ixn_nI (by omega)]
    have hne1 : jfr h 226 m ≠ jsz h + 1 := by omega
    have hne2 : m ≠ jsz h + 1 := by omega
    have loop : ∀ (Q : JO → JH → Prop) (k i : Nat) (h1 : JH), k = bs.length - i → i ≤ bs.length → fr (jsz h) (fun _ => False) h h1 → (∀ F q, jfr h1 F q = jfr h F q) → jkd h1 (jsz h + 1) = 180 → jln h1 (jsz h + 1) = 2 * bs.length → jsz h1 = jsz h + 1 → jus h1 = jus h + 2 * bs.length →
        (∀ j b, j < i → bs[j]? = some b → jai h1 (jsz h + 1) j = b) →
        (∀ h2, fr (jsz h) (fun _ => False) h h2 → (∀ F q, jfr h2 F q = jfr h F q) → jkd h2 (jsz h + 1) = 180 → jln h2 (jsz h + 1) = 2 * bs.length → jsz h2 = jsz h + 1 → jus h2 = jus h + 2 * bs.length → (∀ j b, bs[j]? = some b → jai h2 (jsz h + 1) j = b) → W_X8_say_51 D d Q m x (wfr h2 226 m (jsz h + 1))) →
        L_X8_say_23 D d Q (k + 1) m x (jsz h + 1) (nI i) h1 := by
      intro Q k
      induction k with
      | zero =>
        intro i h1 hk hi f1 f0 f2 f3 f4 f5 f6 hQ
        have hm1 := f1 m hlo2 (fun z => z)
        refine ⟨o1, fun _ => ?_, fun z => absurd (by rw [hm1.fi, o4]; exact nI_le (by omega) (by omega)) z⟩
        rintro h2 rfl
        exact hQ h1 f1 f0 f2 f3 f4 f5 fun j b hb => f6 j b (by have := (List.getElem?_eq_some_iff.mp hb).1; omega) hb
      | succ k ih =>
        intro i h1 hk hi f1 f0 f2 f3 f4 f5 f6 hQ
        have hi' : i < bs.length := by omega
        have hm1 := f1 m hlo2 (fun z => z)
        have ha1 := f1 _ hlo (fun z => z)
        refine ⟨o1, fun z => absurd z (by rw [hm1.fi, o4]; exact nI_ge hi' (by omega)), fun _ => ⟨by rw [hm1.fr]; exact o2, by rw [hm1.fr, ha1.ln]; exact jin_nI (by omega) (by omega), Nat.succ_ne_zero _, by rw [f3]; exact jin_nI (by omega) (by omega), ?_⟩⟩
        rintro h2 rfl
        rw [nI_1, hm1.fr, ha1.ai, ixn_nI (by omega)]
        obtain ⟨q1, q2⟩ := o8 i bs[i] (List.getElem?_eq_getElem hi')
        rw [q1, show (bs[i]).toInt8.toInt32 = bs[i] from q2]
        refine ih (i + 1) _ (by omega) (by omega) (f1.tr (fr_wai (Or.inr (by omega)))) f0 f2 f3 f4 f5 ?_ hQ
        intro j b hj hjb
        rw [jai_wai]
        by_cases e : j = i
        · subst e; rw [if_pos ⟨rfl, rfl⟩]; exact Option.some.inj ((List.getElem?_eq_getElem hi').symm.trans hjb)
        · rw [if_neg fun z => e z.2]; exact f6 j b (by omega) hjb
    refine ⟨bs.length + 1, loop _ bs.length 0 _ (by omega) (by omega) (fr_nwa (Nat.le_refl _)) (fun _ _ => rfl) (by simp only [jkd_wfi, jln_wfi, jfi_wfi, jfl_wfi, jfr_wfi, jai_wfi, jal_wfi, jar_wfi, jsz_wfi, jus_wfi, jkd_wfl, jln_wfl, jfi_wfl, jfl_wfl, jfr_wfl, jai_wfl, jal_wfl, jar_wfl, jsz_wfl, jus_wfl, jkd_wfr, jln_wfr, jfi_wfr, jfl_wfr, jfr_wfr, jai_wfr, jal_wfr, jar_wfr, jsz_wfr, jus_wfr, jkd_wai, jln_wai, jfi_wai, jfl_wai, jfr_wai, jai_wai, jal_wai, jar_wai, jsz_wai, jus_wai, jkd_wal, jln_wal, jfi_wal, jfl_wal, jfr_wal, jai_wal, jal_wal, jar_wal, jsz_wal, jus_wal, jkd_war, jln_war, jfi_war, jfl_war, jfr_war, jai_war, jal_war, jar_war, jsz_war, jus_war, jkd_nwo, jln_nwo, jfi_nwo, jfl_nwo, jfr_nwo, jai_nwo, jal_nwo, jar_nwo, jsz_nwo, jus_nwo, jkd_nwa, jln_nwa, jfi_nwa, jfl_nwa, jfr_nwa, jai_nwa, jal_nwa, jar_nwa, jsz_nwa, jus_nwa, jkd_cpa, jln_cpa, jfi_cpa, jfl_cpa, jfr_cpa, jai_cpa, jal_cpa, jar_cpa, jsz_cpa, jus_cpa, if_true]) (by simp only [jkd_wfi, jln_wfi, jfi_wfi, jfl_wfi, jfr_wfi, jai_wfi, jal_wfi, jar_wfi, jsz_wfi, jus_wfi, jkd_wfl, jln_wfl, jfi_wfl, jfl_wfl, jfr_wfl, jai_wfl, jal_wfl, jar_wfl, jsz_wfl, jus_wfl, jkd_wfr, jln_wfr, jfi_wfr, jfl_wfr, jfr_wfr, jai_wfr, jal_wfr, jar_wfr, jsz_wfr, jus_wfr, jkd_wai, jln_wai, jfi_wai, jfl_wai, jfr_wai, jai_wai, jal_wai, jar_wai, jsz_wai, jus_wai, jkd_wal, jln_wal, jfi_wal, jfl_wal, jfr_wal, jai_wal, jal_wal, jar_wal, jsz_wal, jus_wal, jkd_war, jln_war, jfi_war, jfl_war, jfr_war, jai_war, jal_war, jar_war, jsz_war, jus_war, jkd_nwo, jln_nwo, jfi_nwo, jfl_nwo, jfr_nwo, jai_nwo, jal_nwo, jar_nwo, jsz_nwo, jus_nwo, jkd_nwa, jln_nwa, jfi_nwa, jfl_nwa, jfr_nwa, jai_nwa, jal_nwa, jar_nwa, jsz_nwa, jus_nwa, jkd_cpa, jln_cpa, jfi_cpa, jfl_cpa, jfr_cpa, jai_cpa, jal_cpa, jar_cpa, jsz_cpa, jus_cpa, if_true]) rfl rfl (fun j b hj => absurd hj (by omega)) ?_⟩
    intro h2 f1 f0 f2 f3 f4 f5 f6
    have hm1 := f1 m hlo2 (fun z => z)
    have hO : TwO (wfr h2 226 m (jsz h + 1)) m bs := by
      simp only [TwO, jkd_wfi, jln_wfi, jfi_wfi, jfl_wfi, jfr_wfi, jai_wfi, jal_wfi, jar_wfi, jsz_wfi, jus_wfi, jkd_wfl, jln_wfl, jfi_wfl, jfl_wfl, jfr_wfl, jai_wfl, jal_wfl, jar_wfl, jsz_wfl, jus_wfl, jkd_wfr, jln_wfr, jfi_wfr, jfl_wfr, jfr_wfr, jai_wfr, jal_wfr, jar_wfr, jsz_wfr, jus_wfr, jkd_wai, jln_wai, jfi_wai, jfl_wai, jfr_wai, jai_wai, jal_wai, jar_wai, jsz_wai, jus_wai, jkd_wal, jln_wal, jfi_wal, jfl_wal, jfr_wal, jai_wal, jal_wal, jar_wal, jsz_wal, jus_wal, jkd_war, jln_war, jfi_war, jfl_war, jfr_war, jai_war, jal_war, jar_war, jsz_war, jus_war, jkd_nwo, jln_nwo, jfi_nwo, jfl_nwo, jfr_nwo, jai_nwo, jal_nwo, jar_nwo, jsz_nwo, jus_nwo, jkd_nwa, jln_nwa, jfi_nwa, jfl_nwa, jfr_nwa, jai_nwa, jal_nwa, jar_nwa, jsz_nwa, jus_nwa, jkd_cpa, jln_cpa, jfi_cpa, jfl_cpa, jfr_cpa, jai_cpa, jal_cpa, jar_cpa, jsz_cpa, jus_cpa, and_self, if_true, hm1.kd, hm1.fi]
      exact ⟨o0, o1, Nat.succ_ne_zero _, f2, o4, by omega, by omega, by omega, fun i b hb => ⟨f6 i b hb, (o8 i b hb).2⟩⟩
    have hS : TwS h (wfr h2 226 m (jsz h + 1)) m bs := by
      refine ⟨hO, (f1.mono (Nat.le_refl _) fun _ _ z => z.elim).tr (fr_wfr (Or.inl (Or.inl rfl))), Or.inr ?_, fun F _ _ => hm1.fi F, fun F => hm1.fl F, ?_, ?_, ?_, ?_, ?_⟩
      · simp only [jkd_wfi, jln_wfi, jfi_wfi, jfl_wfi, jfr_wfi, jai_wfi, jal_wfi, jar_wfi, jsz_wfi, jus_wfi, jkd_wfl, jln_wfl, jfi_wfl, jfl_wfl, jfr_wfl, jai_wfl, jal_wfl, jar_wfl, jsz_wfl, jus_wfl, jkd_wfr, jln_wfr, jfi_wfr, jfl_wfr, jfr_wfr, jai_wfr, jal_wfr, jar_wfr, jsz_wfr, jus_wfr, jkd_wai, jln_wai, jfi_wai, jfl_wai, jfr_wai, jai_wai, jal_wai, jar_wai, jsz_wai, jus_wai, jkd_wal, jln_wal, jfi_wal, jfl_wal, jfr_wal, jai_wal, jal_wal, jar_wal, jsz_wal, jus_wal, jkd_war, jln_war, jfi_war, jfl_war, jfr_war, jai_war, jal_war, jar_war, jsz_war, jus_war, jkd_nwo, jln_nwo, jfi_nwo, jfl_nwo, jfr_nwo, jai_nwo, jal_nwo, jar_nwo, jsz_nwo, jus_nwo, jkd_nwa, jln_nwa, jfi_nwa, jfl_nwa, jfr_nwa, jai_nwa, jal_nwa, jar_nwa, jsz_nwa, jus_nwa, jkd_cpa, jln_cpa, jfi_cpa, jfl_cpa, jfr_cpa, jai_cpa, jal_cpa, jar_cpa, jsz_cpa, jus_cpa, and_self, if_true]; omega
      · intro F q hF; simp only [jkd_wfi, jln_wfi, jfi_wfi, jfl_wfi, jfr_wfi, jai_wfi, jal_wfi, jar_wfi, jsz_wfi, jus_wfi, jkd_wfl, jln_wfl, jfi_wfl, jfl_wfl, jfr_wfl, jai_wfl, jal_wfl, jar_wfl, jsz_wfl, jus_wfl, jkd_wfr, jln_wfr, jfi_wfr, jfl_wfr, jfr_wfr, jai_wfr, jal_wfr, jar_wfr, jsz_wfr, jus_wfr, jkd_wai, jln_wai, jfi_wai, jfl_wai, jfr_wai, jai_wai, jal_wai, jar_wai, jsz_wai, jus_wai, jkd_wal, jln_wal, jfi_wal, jfl_wal, jfr_wal, jai_wal, jal_wal, jar_wal, jsz_wal, jus_wal, jkd_war, jln_war, jfi_war, jfl_war, jfr_war, jai_war, jal_war, jar_war, jsz_war, jus_war, jkd_nwo, jln_nwo, jfi_nwo, jfl_nwo, jfr_nwo, jai_nwo, jal_nwo, jar_nwo, jsz_nwo, jus_nwo, jkd_nwa, jln_nwa, jfi_nwa, jfl_nwa, jfr_nwa, jai_nwa, jal_nwa, jar_nwa, jsz_nwa, jus_nwa, jkd_cpa, jln_cpa, jfi_cpa, jfl_cpa, jfr_cpa, jai_cpa, jal_cpa, jar_cpa, jsz_cpa, jus_cpa, hF, false_and, if_false]; exact f0 F q
      · simp only [jkd_wfi, jln_wfi, jfi_wfi, jfl_wfi, jfr_wfi, jai_wfi, jal_wfi, jar_wfi, jsz_wfi, jus_wfi, jkd_wfl, jln_wfl, jfi_wfl, jfl_wfl, jfr_wfl, jai_wfl, jal_wfl, jar_wfl, jsz_wfl, jus_wfl, jkd_wfr, jln_wfr, jfi_wfr, jfl_wfr, jfr_wfr, jai_wfr, jal_wfr, jar_wfr, jsz_wfr, jus_wfr, jkd_wai, jln_wai, jfi_wai, jfl_wai, jfr_wai, jai_wai, jal_wai, jar_wai, jsz_wai, jus_wai, jkd_wal, jln_wal, jfi_wal, jfl_wal, jfr_wal, jai_wal, jal_wal, jar_wal, jsz_wal, jus_wal, jkd_war, jln_war, jfi_war, jfl_war, jfr_war, jai_war, jal_war, jar_war, jsz_war, jus_war, jkd_nwo, jln_nwo, jfi_nwo, jfl_nwo, jfr_nwo, jai_nwo, jal_nwo, jar_nwo, jsz_nwo, jus_nwo, jkd_nwa, jln_nwa, jfi_nwa, jfl_nwa, jfr_nwa, jai_nwa, jal_nwa, jar_nwa, jsz_nwa, jus_nwa, jkd_cpa, jln_cpa, jfi_cpa, jfl_cpa, jfr_cpa, jai_cpa, jal_cpa, jar_cpa, jsz_cpa, jus_cpa]; omega
      · simp only [jkd_wfi, jln_wfi, jfi_wfi, jfl_wfi, jfr_wfi, jai_wfi, jal_wfi, jar_wfi, jsz_wfi, jus_wfi, jkd_wfl, jln_wfl, jfi_wfl, jfl_wfl, jfr_wfl, jai_wfl, jal_wfl, jar_wfl, jsz_wfl, jus_wfl, jkd_wfr, jln_wfr, jfi_wfr, jfl_wfr, jfr_wfr, jai_wfr, jal_wfr, jar_wfr, jsz_wfr, jus_wfr, jkd_wai, jln_wai, jfi_wai, jfl_wai, jfr_wai, jai_wai, jal_wai, jar_wai, jsz_wai, jus_wai, jkd_wal, jln_wal, jfi_wal, jfl_wal, jfr_wal, jai_wal, jal_wal, jar_wal, jsz_wal, jus_wal, jkd_war, jln_war, jfi_war, jfl_war, jfr_war, jai_war, jal_war, jar_war, jsz_war, jus_war, jkd_nwo, jln_nwo, jfi_nwo, jfl_nwo, jfr_nwo, jai_nwo, jal_nwo, jar_nwo, jsz_nwo, jus_nwo, jkd_nwa, jln_nwa, jfi_nwa, jfl_nwa, jfr_nwa, jai_nwa, jal_nwa, jar_nwa, jsz_nwa, jus_nwa, jkd_cpa, jln_cpa, jfi_cpa, jfl_cpa, jfr_cpa, jai_cpa, jal_cpa, jar_cpa, jsz_cpa, jus_cpa, and_self, if_true, f3, ← he, log2_dbl hb0]; omega
      · simp only [jkd_wfi, jln_wfi, jfi_wfi, jfl_wfi, jfr_wfi, jai_wfi, jal_wfi, jar_wfi, jsz_wfi, jus_wfi, jkd_wfl, jln_wfl, jfi_wfl, jfl_wfl, jfr_wfl, jai_wfl, jal_wfl, jar_wfl, jsz_wfl, jus_wfl, jkd_wfr, jln_wfr, jfi_wfr, jfl_wfr, jfr_wfr, jai_wfr, jal_wfr, jar_wfr, jsz_wfr, jus_wfr, jkd_wai, jln_wai, jfi_wai, jfl_wai, jfr_wai, jai_wai, jal_wai, jar_wai, jsz_wai, jus_wai, jkd_wal, jln_wal, jfi_wal, jfl_wal, jfr_wal, jai_wal, jal_wal, jar_wal, jsz_wal, jus_wal, jkd_war, jln_war, jfi_war, jfl_war, jfr_war, jai_war, jal_war, jar_war, jsz_war, jus_war, jkd_nwo, jln_nwo, jfi_nwo, jfl_nwo, jfr_nwo, jai_nwo, jal_nwo, jar_nwo, jsz_nwo, jus_nwo, jkd_nwa, jln_nwa, jfi_nwa, jfl_nwa, jfr_nwa, jai_nwa, jal_nwa, jar_nwa, jsz_nwa, jus_nwa, jkd_cpa, jln_cpa, jfi_cpa, jfl_cpa, jfr_cpa, jai_cpa, jal_cpa, jar_cpa, jsz_cpa, jus_cpa]; omega
      · simp only [jkd_wfi, jln_wfi, jfi_wfi, jfl_wfi, jfr_wfi, jai_wfi, jal_wfi, jar_wfi, jsz_wfi, jus_wfi, jkd_wfl, jln_wfl, jfi_wfl, jfl_wfl, jfr_wfl, jai_wfl, jal_wfl, jar_wfl, jsz_wfl, jus_wfl, jkd_wfr, jln_wfr, jfi_wfr, jfl_wfr, jfr_wfr, jai_wfr, jal_wfr, jar_wfr, jsz_wfr, jus_wfr, jkd_wai, jln_wai, jfi_wai, jfl_wai, jfr_wai, jai_wai, jal_wai, jar_wai, jsz_wai, jus_wai, jkd_wal, jln_wal, jfi_wal, jfl_wal, jfr_wal, jai_wal, jal_wal, jar_wal, jsz_wal, jus_wal, jkd_war, jln_war, jfi_war, jfl_war, jfr_war, jai_war, jal_war, jar_war, jsz_war, jus_war, jkd_nwo, jln_nwo, jfi_nwo, jfl_nwo, jfr_nwo, jai_nwo, jal_nwo, jar_nwo, jsz_nwo, jus_nwo, jkd_nwa, jln_nwa, jfi_nwa, jfl_nwa, jfr_nwa, jai_nwa, jal_nwa, jar_nwa, jsz_nwa, jus_nwa, jkd_cpa, jln_cpa, jfi_cpa, jfl_cpa, jfr_cpa, jai_cpa, jal_cpa, jar_cpa, jsz_cpa, jus_cpa, and_self, if_true, f3]; omega
    refine k_say51 hO (by simp only [jkd_wfi, jln_wfi, jfi_wfi, jfl_wfi, jfr_wfi, jai_wfi, jal_wfi, jar_wfi, jsz_wfi, jus_wfi, jkd_wfl, jln_wfl, jfi_wfl, jfl_wfl, jfr_wfl, jai_wfl, jal_wfl, jar_wfl, jsz_wfl, jus_wfl, jkd_wfr, jln_wfr, jfi_wfr, jfl_wfr, jfr_wfr, jai_wfr, jal_wfr, jar_wfr, jsz_wfr, jus_wfr, jkd_wai, jln_wai, jfi_wai, jfl_wai, jfr_wai, jai_wai, jal_wai, jar_wai, jsz_wai, jus_wai, jkd_wal, jln_wal, jfi_wal, jfl_wal, jfr_wal, jai_wal, jal_wal, jar_wal, jsz_wal, jus_wal, jkd_war, jln_war, jfi_war, jfl_war, jfr_war, jai_war, jal_war, jar_war, jsz_war, jus_war, jkd_nwo, jln_nwo, jfi_nwo, jfl_nwo, jfr_nwo, jai_nwo, jal_nwo, jar_nwo, jsz_nwo, jus_nwo, jkd_nwa, jln_nwa, jfi_nwa, jfl_nwa, jfr_nwa, jai_nwa, jal_nwa, jar_nwa, jsz_nwa, jus_nwa, jkd_cpa, jln_cpa, jfi_cpa, jfl_cpa, jfr_cpa, jai_cpa, jal_cpa, jar_cpa, jsz_cpa, jus_cpa, and_self, if_true, f3]; omega) fun h' s e => endV fun _ _ => ⟨hS.tr s, e.trans ?_⟩
    rw [jfi_wfr]; exact hm1.fi 237
/-- the two low bytes -/
def b2 (x : Int32) : List Int32 := [(x >>> (8 &&& 31)).toInt8.toInt32, x.toInt8.toInt32]
def b4 (x : Int32) : List Int32 := b2 (x >>> (16 &&& 31)) ++ b2 x
theorem k_say2 {D : JD} {d : Nat} {h : JH} {m : Nat} {x : Int32} {bs : List Int32} (ho : TwO h m bs) (hn : bs.length + 2 < 500000) :
    cX8_say2 D (d + 2) m x h (pV D h (fun h' => TwS h h' m (bs ++ b2 x) ∧ jfi h' 237 m = jfi h 237 m) no) := by
  refine t_X8_say2 ⟨ho.2.1, useV0 (k_say ho (by omega)) fun h1 _ _ ⟨s1, e1⟩ => useV0 (k_say s1.1 (by simp; omega)) fun h2 _ _ ⟨s2, e2⟩ => endV fun _ _ => ⟨?_, e2.trans e1⟩⟩
  simpa [b2] using s1.tr s2
theorem k_say4 {D : JD} {d : Nat} {h : JH} {m : Nat} {x : Int32} {bs : List Int32} (ho : TwO h m bs) (hn : bs.length + 4 < 500000) :
    cX8_say4 D (d + 3) m x h (pV D h (fun h' => TwS h h' m (bs ++ b4 x) ∧ jfi h' 237 m = jfi h 237 m) no) := by
  refine t_X8_say4 ⟨ho.2.1, useV0 (k_say2 ho (by omega)) fun h1 _ _ ⟨s1, e1⟩ => useV0 (k_say2 s1.1 (by simp [b2]; omega)) fun h2 _ _ ⟨s2, e2⟩ => endV fun _ _ => ⟨?_, e2.trans e1⟩⟩
  simpa [b4] using s1.tr s2
theorem TwS.begin {h : JH} {m : Nat} {bs : List Int32} (ho : TwO h m bs) (v : Int32) : TwS h (wfi h 237 m v) m bs := by
  refine ⟨?_, fr_wfi (Or.inl (Or.inl rfl)), Or.inl rfl, fun F _ hF => by simp only [jkd_wfi, jln_wfi, jfi_wfi, jfl_wfi, jfr_wfi, jai_wfi, jal_wfi, jar_wfi, jsz_wfi, jus_wfi, jkd_wfl, jln_wfl, jfi_wfl, jfl_wfl, jfr_wfl, jai_wfl, jal_wfl, jar_wfl, jsz_wfl, jus_wfl, jkd_wfr, jln_wfr, jfi_wfr, jfl_wfr, jfr_wfr, jai_wfr, jal_wfr, jar_wfr, jsz_wfr, jus_wfr, jkd_wai, jln_wai, jfi_wai, jfl_wai, jfr_wai, jai_wai, jal_wai, jar_wai, jsz_wai, jus_wai, jkd_wal, jln_wal, jfi_wal, jfl_wal, jfr_wal, jai_wal, jal_wal, jar_wal, jsz_wal, jus_wal, jkd_war, jln_war, jfi_war, jfl_war, jfr_war, jai_war, jal_war, jar_war, jsz_war, jus_war, jkd_nwo, jln_nwo, jfi_nwo, jfl_nwo, jfr_nwo, jai_nwo, jal_nwo, jar_nwo, jsz_nwo, jus_nwo, jkd_nwa, jln_nwa, jfi_nwa, jfl_nwa, jfr_nwa, jai_nwa, jal_nwa, jar_nwa, jsz_nwa, jus_nwa, jkd_cpa, jln_cpa, jfi_cpa, jfl_cpa, jfr_cpa, jai_cpa, jal_cpa, jar_cpa, jsz_cpa, jus_cpa, hF, false_and, if_false], fun _ => rfl, fun _ _ _ => rfl, Nat.le_refl _, Nat.le_refl _, Nat.le_refl _, Nat.le_refl _⟩
  simpa only [TwO, jkd_wfi, jln_wfi, jfi_wfi, jfl_wfi, jfr_wfi, jai_wfi, jal_wfi, jar_wfi, jsz_wfi, jus_wfi, jkd_wfl, jln_wfl, jfi_wfl, jfl_wfl, jfr_wfl, jai_wfl, jal_wfl, jar_wfl, jsz_wfl, jus_wfl, jkd_wfr, jln_wfr, jfi_wfr, jfl_wfr, jfr_wfr, jai_wfr, jal_wfr, jar_wfr, jsz_wfr, jus_wfr, jkd_wai, jln_wai, jfi_wai, jfl_wai, jfr_wai, jai_wai, jal_wai, jar_wai, jsz_wai, jus_wai, jkd_wal, jln_wal, jfi_wal, jfl_wal, jfr_wal, jai_wal, jal_wal, jar_wal, jsz_wal, jus_wal, jkd_war, jln_war, jfi_war, jfl_war, jfr_war, jai_war, jal_war, jar_war, jsz_war, jus_war, jkd_nwo, jln_nwo, jfi_nwo, jfl_nwo, jfr_nwo, jai_nwo, jal_nwo, jar_nwo, jsz_nwo, jus_nwo, jkd_nwa, jln_nwa, jfi_nwa, jfl_nwa, jfr_nwa, jai_nwa, jal_nwa, jar_nwa, jsz_nwa, jus_nwa, jkd_cpa, jln_cpa, jfi_cpa, jfl_cpa, jfr_cpa, jai_cpa, jal_cpa, jar_cpa, jsz_cpa, jus_cpa, Nat.reduceEqDiff, false_and, if_false] using ho
theorem k_begin {D : JD} {d : Nat} {h : JH} {m : Nat} {x : Int32} {bs : List Int32} (ho : TwO h m bs) (hn : bs.length + 5 < 500000) :
    cX8_begin D (d + 4) m x h (pV D h (fun h' => TwS h h' m (bs ++ [x.toInt8.toInt32] ++ [0, 0, 0, 0]) ∧ jfi h' 237 m = nI (bs.length + 1)) no) := by
  refine t_X8_begin ⟨ho.2.1, useV0 (k_say (d := d + 2) ho (by omega)) fun h1 _ _ ⟨s1, e⟩ => ?_⟩
  rintro h2 rfl
  have s2 := TwS.begin s1.1 (jfi h1 227 m)
  refine useV0 (k_say4 s2.1 (by simp; omega)) fun h3 _ _ ⟨s3, e3⟩ => endV fun _ _ => ⟨?_, ?_⟩
  · have := (s1.tr s2).tr s3
    rwa [show b4 0 = [0, 0, 0, 0] by decide] at this
  · rw [e3, jfi_wfi, if_pos ⟨rfl, rfl⟩, s1.1.2.2.2.2.1]; simp
theorem TwS.setB {h : JH} {m g : Nat} {bs : List Int32} {v : Int32} (ho : TwO h m bs) (hg : g < bs.length) (hv : jby v) : TwS h (wai h (jfr h 226 m) g v) m (bs.set g v) := by
  obtain ⟨o0, o1, o2, o3, o4, o5, o6, o7, o8⟩ := ho
  refine ⟨?_, fr_wai (Or.inl (Or.inr rfl)), Or.inl rfl, fun _ _ _ => rfl, fun _ => rfl, fun _ _ _ => rfl, Nat.le_refl _, Nat.le_refl _, Nat.le_refl _, Nat.le_refl _⟩
  simp only [TwO, jkd_wfi, jln_wfi, jfi_wfi, jfl_wfi, jfr_wfi, jai_wfi, jal_wfi, jar_wfi, jsz_wfi, jus_wfi, jkd_wfl, jln_wfl, jfi_wfl, jfl_wfl, jfr_wfl, jai_wfl, jal_wfl, jar_wfl, jsz_wfl, jus_wfl, jkd_wfr, jln_wfr, jfi_wfr, jfl_wfr, jfr_wfr, jai_wfr, jal_wfr, jar_wfr, jsz_wfr, jus_wfr, jkd_wai, jln_wai, jfi_wai, jfl_wai, jfr_wai, jai_wai, jal_wai, jar_wai, jsz_wai, jus_wai, jkd_wal, jln_wal, jfi_wal, jfl_wal, jfr_wal, jai_wal, jal_wal, jar_wal, jsz_wal, jus_wal, jkd_war, jln_war, jfi_war, jfl_war, jfr_war, jai_war, jal_war, jar_war, jsz_war, jus_war, jkd_nwo, jln_nwo, jfi_nwo, jfl_nwo, jfr_nwo, jai_nwo, jal_nwo, jar_nwo, jsz_nwo, jus_nwo, jkd_nwa, jln_nwa, jfi_nwa, jfl_nwa, jfr_nwa, jai_nwa, jal_nwa, jar_nwa, jsz_nwa, jus_nwa, jkd_cpa, jln_cpa, jfi_cpa, jfl_cpa, jfr_cpa, jai_cpa, jal_cpa, jar_cpa, jsz_cpa, jus_cpa, List.length_set, true_and]
  refine ⟨o0, o1, o2, o3, o4, o5, o6, o7, fun i b hb => ?_⟩
  grind
