/-! the component: whether SELECT is grouped; HAVING is checked -/
section
variable {D : JD} {h h' h'' h0 h1 h2 : JH} {ρ : Nat → Nat} {A : List Nod} {E E' : TEnv} {q c r i v k j d e sc n B u x z ra rb : Nat} {y : Stm} {T : List Tab} {pt : List Nat} {R : List Nat} {ss : List (Str × Tab)} {S : Nat → Prop} {L : List (Nat × List (Str × Tab))} {gs : List Nat} {g0 : Bool}
theorem jboB {b : Bool} : jbo (if b = true then 1 else 0) := by
  cases b
  · exact jbo0
  · exact jbo1
theorem any_take {α : Type} {l : List α} {f : α → Bool} (hk : k < l.length) : (l.take (k + 1)).any f = ((l.take k).any f || f l[k]) := by
  rw [List.take_succ_eq_append_getElem hk, List.any_append, List.any_cons, List.any_nil, Bool.or_false]
def itG (A : List Nod) (it : Itm) : Bool := !it.1 && tGathers A (it.2.2 + 1) it.2.2
theorem w_selA {Q : JO → JH → Prop} (hA : NOK A) (kd : SelR h ρ v y) (l12 : (slI (smS y)).length ≤ 12) (il : ∀ it ∈ slI (smS y), it.1 = false → it.2.2 < A.length ∧ HB A n it.2.2) (hd : n + 4 ≤ d)
    (hQ : ∀ h1, JInv D h1 → SkP D S A ρ sc E pt L ra rb h h1 → jfi h1 160 v = (if (g0 || (slI (smS y)).any (itG A)) = true then 1 else 0) → ∃ n, L_X40_check_243 D d Q n v sc 0 h1) :
    ∀ (m k : Nat) (h1 : JH), k + m = (slI (smS y)).length → JInv D h1 → SkP D S A ρ sc E pt L ra rb h h1 → jfi h1 160 v = (if (g0 || ((slI (smS y)).take k).any (itG A)) = true then 1 else 0) → L_X40_check_184 D d Q (m + 1) v sc (nI k) h1
  | m, k, h1, hm, hI1, P, eb => by
    have kd1 : SelR h1 ρ v y := kd.sf P.1.2.1
    obtain ⟨v0, vk⟩ := kd1.vk
    obtain ⟨aI, xI, c1⟩ := kd1.itm
    refine ⟨v0, fun g => ?_, fun g => ?_⟩
    · rw [c1] at g
      have := (nI_leI (by omega) (by omega)).mp g
      rw [List.take_of_length_le (by omega)] at eb
      exact hQ h1 hI1 P eb
    · rw [c1] at g
      have kl : k < (slI (smS y)).length := Nat.lt_of_not_le fun z => g ((nI_leI (by omega) (by omega)).mpr z)
      obtain ⟨m', rfl⟩ : ∃ m', m = m' + 1 := ⟨m - 1, by omega⟩
      have hg : (slI (smS y))[k]? = some (slI (smS y))[k] := List.getElem?_eq_getElem kl
      have ix : ixn (nI k) = k := ixn_nI (by omega)
      have at_ := any_take (f := itG A) kl
      have lm := List.getElem_mem kl
      generalize (slI (smS y))[k] = it at hg at_ lm
      have store : ∀ b : Bool, (g0 || ((slI (smS y)).take (k + 1)).any (itG A)) = b → W_X40_check_232 D d Q (L_X40_check_184 D d Q (m' + 1)) v sc (nI k) v (if b = true then 1 else 0) h1 := by
        intro b hb
        refine ⟨v0, jboB, ?_⟩
        rintro h3 rfl
        rw [nI_1]
        obtain ⟨P3, hI3⟩ := P.wi (b := if b = true then 1 else 0) hA hI1 vk (Or.inr rfl)
        exact w_selA hA kd l12 il hd hQ m' (k + 1) _ (by omega) hI3 P3 (by rw [jfi_wfi, if_pos ⟨rfl, rfl⟩, hb])
      have tk : ∀ b : Bool, itG A it = b → (g0 || ((slI (smS y)).take k).any (itG A)) = false → W_X40_check_232 D d Q (L_X40_check_184 D d Q (m' + 1)) v sc (nI k) v (if b = true then 1 else 0) h1 := by
        intro b hb hf
        refine store b ?_
        rw [at_, ← Bool.or_assoc, hf, Bool.false_or, hb]
      rw [eb]
      refine ⟨fun g1 => ?_, fun g1 => ?_⟩
      · have hb : (g0 || ((slI (smS y)).take k).any (itG A)) = true := by
          cases z : (g0 || ((slI (smS y)).take k).any (itG A)) with
          | true => rfl
          | false => rw [z] at g1; exact absurd rfl g1
        exact store true (by rw [at_, ← Bool.or_assoc, hb, Bool.true_or])
      · have hb : (g0 || ((slI (smS y)).take k).any (itG A)) = false := by
          cases z : (g0 || ((slI (smS y)).take k).any (itG A)) with
          | false => rfl
          | true => rw [z] at g1; exact absurd g1 (by decide)
        have ir := xI k it hg
        rw [ix]
        refine ⟨aI.1, by rw [aI.2.2]; exact jin_nI (by omega) (by decide), ir.1, fun g2 => ?_, fun g2 => ?_⟩
        · have hs : it.1 = true := by
            cases z : it.1 with
            | true => rfl
            | false => rw [ir.2.2.1, z] at g2; exact absurd rfl g2
          exact tk false (by unfold itG; rw [hs]; rfl) hb
        · have hs : it.1 = false := by
            cases z : it.1 with
            | false => rfl
            | true => rw [ir.2.2.1, z] at g2; exact absurd g2 (by decide)
          obtain ⟨i1, i2⟩ := il it lm hs
          obtain ⟨i3, i4⟩ := ir.2.2.2.2 hs
          rw [i3]
          refine ⟨by rw [aI.2.2]; exact jin_nI (by omega) (by decide), (P.1.2.2.1 _ i1).1, useAgs (w_ags hA P.1.2.2.1 (it.2.2 + 1) it.2.2 d n (by omega) i1 i2 (by omega)) ?_⟩
          rintro b h3 hI3 _ ⟨rfl, he3⟩
          have he3 := he3.symm
          subst he3
          have ig : itG A it = tGathers A (it.2.2 + 1) it.2.2 := by unfold itG; rw [hs]; rfl
          cases z : tGathers A (it.2.2 + 1) it.2.2 with
          | false => exact ⟨fun _ => tk false (ig.trans z) hb, fun g => absurd rfl g⟩
          | true => exact ⟨fun g => absurd g (by decide), fun _ => tk true (ig.trans z) hb⟩
theorem w_selB {Q : JO → JH → Prop} (hA : NOK A) (kd : SelR h ρ v y) (il : ∀ o ∈ slO (smS y), o.1 < A.length ∧ HB A n o.1) (hd : n + 4 ≤ d)
    (hQ : ∀ h1, JInv D h1 → SkP D S A ρ sc E pt L ra rb h h1 → jfi h1 160 v = (if (g0 || (slO (smS y)).any fun o => tGathers A (o.1 + 1) o.1) = true then 1 else 0) → ∀ h_4 : JH, h_4 = wfi h1 51 sc (1 : Int32) → (∀ h_6 : JH, h_6 = wfr h_4 53 sc (jfr h_4 147 v) → (∀ h_8 : JH, h_8 = wfi h_6 54 sc (jfi h_6 148 v) → (cX20_truth D d (jfr h_8 149 v) sc h_8 (pV D h_8 (fun h_10 => ((jfr h_10 149 v) = 0 → W_X40_check_329 D d Q v sc h_10) ∧ ((jfr h_10 149 v) ≠ 0 → cX24_grouped D d (jfr h_10 149 v) sc h_10 (pV D h_10 (fun h_14 => W_X40_check_329 D d Q v sc h_14) (jth Q)))) (jth Q)))))) :
    ∀ (m k : Nat) (h1 : JH), k + m = (slO (smS y)).length → JInv D h1 → SkP D S A ρ sc E pt L ra rb h h1 → jfi h1 160 v = (if (g0 || ((slO (smS y)).take k).any fun o => tGathers A (o.1 + 1) o.1) = true then 1 else 0) → L_X40_check_243 D d Q (m + 1) v sc (nI k) h1
  | m, k, h1, hm, hI1, P, eb => by
    have kd1 : SelR h1 ρ v y := kd.sf P.1.2.1
    obtain ⟨v0, vk⟩ := kd1.vk
    obtain ⟨aI, aB, xI, c1, c2⟩ := kd1.ord
    refine ⟨v0, fun g => ?_, fun g => ?_⟩
    · rw [c1] at g
      have := (nI_leI (by omega) (by omega)).mp g
      rw [List.take_of_length_le (by omega)] at eb
      exact ⟨P.1.2.2.2.1.1.1, hQ h1 hI1 P eb⟩
    · rw [c1] at g
      have kl : k < (slO (smS y)).length := Nat.lt_of_not_le fun z => g ((nI_leI (by omega) (by omega)).mpr z)
      obtain ⟨m', rfl⟩ : ∃ m', m = m' + 1 := ⟨m - 1, by omega⟩
      have hg : (slO (smS y))[k]? = some (slO (smS y))[k] := List.getElem?_eq_getElem kl
      have ix : ixn (nI k) = k := ixn_nI (by omega)
      have at_ := any_take (f := fun o : Nat × Bool => tGathers A (o.1 + 1) o.1) kl
      have lm := List.getElem_mem kl
      generalize (slO (smS y))[k] = it at hg at_ lm
      have store : ∀ b : Bool, (g0 || ((slO (smS y)).take (k + 1)).any fun o => tGathers A (o.1 + 1) o.1) = b → W_X40_check_276 D d Q (L_X40_check_243 D d Q (m' + 1)) v sc (nI k) v (if b = true then 1 else 0) h1 := by
        intro b hb
        refine ⟨v0, jboB, ?_⟩
        rintro h3 rfl
        rw [nI_1]
        obtain ⟨P3, hI3⟩ := P.wi (b := if b = true then 1 else 0) hA hI1 vk (Or.inr rfl)
        exact w_selB hA kd il hd hQ m' (k + 1) _ (by omega) hI3 P3 (by rw [jfi_wfi, if_pos ⟨rfl, rfl⟩, hb])
      have tk : ∀ b : Bool, tGathers A (it.1 + 1) it.1 = b → (g0 || ((slO (smS y)).take k).any fun o => tGathers A (o.1 + 1) o.1) = false → W_X40_check_276 D d Q (L_X40_check_243 D d Q (m' + 1)) v sc (nI k) v (if b = true then 1 else 0) h1 := by
        intro b hb hf
        refine store b ?_
        rw [at_, ← Bool.or_assoc, hf, Bool.false_or, hb]
      rw [eb]
      refine ⟨fun g1 => ?_, fun g1 => ?_⟩
      · have hb : (g0 || ((slO (smS y)).take k).any fun o => tGathers A (o.1 + 1) o.1) = true := by
          cases z : (g0 || ((slO (smS y)).take k).any fun o => tGathers A (o.1 + 1) o.1) with
          | true => rfl
          | false => rw [z] at g1; exact absurd rfl g1
        exact store true (by rw [at_, ← Bool.or_assoc, hb, Bool.true_or])
      · have hb : (g0 || ((slO (smS y)).take k).any fun o => tGathers A (o.1 + 1) o.1) = false := by
          cases z : (g0 || ((slO (smS y)).take k).any fun o => tGathers A (o.1 + 1) o.1) with
          | false => rfl
          | true => rw [z] at g1; exact absurd g1 (by decide)
        obtain ⟨i1, i2⟩ := il it lm
        rw [ix, (xI k it hg).1]
        refine ⟨aI.1, by rw [aI.2.2]; exact jin_nI (by omega) (by decide), (P.1.2.2.1 _ i1).1, useAgs (w_ags hA P.1.2.2.1 (it.1 + 1) it.1 d n (by omega) i1 i2 (by omega)) ?_⟩
        rintro b h3 hI3 _ ⟨rfl, he3⟩
        have he3 := he3.symm
        subst he3
        cases z : tGathers A (it.1 + 1) it.1 with
        | false => exact ⟨fun _ => tk false z hb, fun g => absurd rfl g⟩
        | true => exact ⟨fun g => absurd g (by decide), fun _ => tk true z hb⟩
/-- the groups' array is the statement's -/
def GsK (h : JH) (sc : Nat) (ρ : Nat → Nat) (gs : List Nat) : Prop := GsR h sc ρ gs ∧ jkd h (jfr h 53 sc) = 154
/-- aggregates may stand from now on -/
theorem SkP.agg (P : SkP D S A ρ sc (ss, pt, false) pt L ra rb h h1) (hA : NOK A) (hI1 : JInv D h1) (kd1 : SelR h1 ρ v y) :
    JInv D (wfi (wfr (wfi h1 51 sc 1) 53 sc (jfr h1 147 v)) 54 sc (jfi h1 148 v)) ∧ SkP D S A ρ sc (ss, pt, true) pt L ra rb h (wfi (wfr (wfi h1 51 sc 1) 53 sc (jfr h1 147 v)) 54 sc (jfi h1 148 v)) ∧ GsK (wfi (wfr (wfi h1 51 sc 1) 53 sc (jfr h1 147 v)) 54 sc (jfi h1 148 v)) sc ρ (slG (smS y)) := by
  obtain ⟨⟨kf, sf, tr, sC, w5, f8, z1, z2⟩, pl⟩ := P
  obtain ⟨aG, xG, c1, c2⟩ := kd1.grp
  have s6 := sC.1.2
  have b1 : jbs D < sc := hI1.2.1 _ (by rw [s6]; rfl)
  have b2 : sc ≤ jsz h1 := hI1.lt (by rw [s6]; decide)
  have hI2 : JInv D (wfi (wfr (wfi h1 51 sc 1) 53 sc (jfr h1 147 v)) 54 sc (jfi h1 148 v)) := ((hI1.wfi b1 b2).wfr b1 b2 (Or.inr (by show sbt (jkd h1 (jfr h1 147 v)) _ = true; rw [aG.2.1]; rfl))).wfi b1 b2
  have er : ∀ F q, F ≠ 53 → jfr (wfi (wfr (wfi h1 51 sc 1) 53 sc (jfr h1 147 v)) 54 sc (jfi h1 148 v)) F q = jfr h1 F q := fun F q hF => by
    show jfr (wfr (wfi h1 51 sc 1) 53 sc (jfr h1 147 v)) F q = _
    rw [jfr_wfr, if_neg fun z => hF z.1]
    rfl
  have e53 : jfr (wfi (wfr (wfi h1 51 sc 1) 53 sc (jfr h1 147 v)) 54 sc (jfi h1 148 v)) 53 sc = jfr h1 147 v := by
    show jfr (wfr (wfi h1 51 sc 1) 53 sc (jfr h1 147 v)) 53 sc = _
    rw [jfr_wfr, if_pos ⟨rfl, rfl⟩]
  have ei : ∀ F q, F ≠ 51 → F ≠ 54 → jfi (wfi (wfr (wfi h1 51 sc 1) 53 sc (jfr h1 147 v)) 54 sc (jfi h1 148 v)) F q = jfi h1 F q := fun F q h51 h54 => by
    rw [jfi_wfi, if_neg fun z => h54 z.1]
    show jfi (wfi h1 51 sc 1) F q = _
    rw [jfi_wfi, if_neg fun z => h51 z.1]
  have e54 : jfi (wfi (wfr (wfi h1 51 sc 1) 53 sc (jfr h1 147 v)) 54 sc (jfi h1 148 v)) 54 sc = jfi h1 148 v := by rw [jfi_wfi, if_pos ⟨rfl, rfl⟩]
  have e51 : jfi (wfi (wfr (wfi h1 51 sc 1) 53 sc (jfr h1 147 v)) 54 sc (jfi h1 148 v)) 51 sc = 1 := by
    rw [jfi_wfi, if_neg (by omega)]
    show jfi (wfi h1 51 sc 1) 51 sc = _
    rw [jfi_wfi, if_pos ⟨rfl, rfl⟩]
  have kf2 : KF scK h1 (wfi (wfr (wfi h1 51 sc 1) 53 sc (jfr h1 147 v)) 54 sc (jfi h1 148 v)) := by
    refine ⟨fun q _ _ q3 _ => ((same_wfi fun z => ?_).tr (same_wfr fun z => ?_)).tr (same_wfi fun z => ?_), Nat.le_refl _, fun _ _ => rfl, fun o F x y hF => ?_⟩
    · rw [z, s6] at q3; cases q3
    · rw [z, s6] at q3; cases q3
    · rw [z, s6] at q3; cases q3
    · rw [er F x (by omega), er F y (by omega)]
      exact o F x y hF
  have sf2 : SF D h1 (wfi (wfr (wfi h1 51 sc 1) 53 sc (jfr h1 147 v)) 54 sc (jfi h1 148 v)) := kf2.sf hI1 scK_w
  refine ⟨hI2, ⟨⟨kf.tr (kf2.mono scK_chk), sf.tr sf2.up hI1, tr.sf sf2 hA hI1, ?_, by rw [ei 52 _ (by decide) (by decide)]; exact w5, fun q hq => (er 138 q (by decide)).trans (f8 q hq), z1, z2⟩, fun p hp => ⟨(pl p hp).1, (pl p hp).2.fi fun G q hG => ei G q (by omega) (by omega)⟩⟩, ⟨sC.1.1, ?_, ?_, ?_, ?_, fun k g hg => ?_⟩, ?_⟩
  · obtain ⟨k1, ⟨k3, k4, k5, k6, k7⟩, k8, k12⟩ := sC
    refine ⟨k1, ⟨by rw [er 47 _ (by decide)]; exact k3, by rw [er 47 _ (by decide)]; exact k4, by rw [ei 48 _ (by decide) (by decide)]; exact k5, k6, fun j q hq => ?_⟩, by rw [er 49 _ (by decide)]; exact k8, by rw [e51]; rfl⟩
    obtain ⟨a1, a2, a3, a4⟩ := k7 j q hq
    rw [er 47 _ (by decide)]
    refine ⟨a1, a2, ?_, ?_⟩
    · rw [er 136 _ (by decide)]; exact kf2.str hI1 a3 ⟨rfl, rfl, rfl, rfl⟩
    · rw [er 138 _ (by decide)]
      exact a4.kf kf2 hI1 rfl ⟨fun k h1 h2 => (f43 k h1 h2).2.2.2.2.1, rfl⟩ ⟨rfl, rfl, rfl, rfl⟩ (hI1.ref (F := 138) (by decide +kernel) a4.1)
  · rw [e54]; exact c1
  · rw [e53]; exact aG.1
  · rw [e53]
    show _ ≤ jln h1 (jfr h1 147 v)
    rw [aG.2.2]; exact c2
  · rw [e53]
    show jln h1 (jfr h1 147 v) ≤ 100
    rw [aG.2.2]; decide
  · rw [e53]
    exact xG k g hg
  · rw [e53]
    exact aG.2.1
theorem GsR.ck {M : Nat → Prop} (g : GsR h sc ρ gs) (c : CkF sc M h h') : GsR h' sc ρ gs := by
  obtain ⟨g1, g2, g3, g4, g5, g6⟩ := g
  have e53 : jfr h' 53 sc = jfr h 53 sc := c.2.2.2.2.1 53 sc fun z => absurd z (by decide)
  refine ⟨g1, (c.2.2.2.2.2 54 sc (fun z => absurd z (by decide)) (fun z => by omega)).trans g2, by rw [e53]; exact g3, by rw [e53, (c.1 _).2]; exact g4, by rw [e53, (c.1 _).2]; exact g5, fun k x hx => by rw [e53, (c.2.2.1 _ _).1]; exact g6 k x hx⟩
theorem GsK.ck {M : Nat → Prop} (g : GsK h sc ρ gs) (c : CkF sc M h h') : GsK h' sc ρ gs := by
  have e53 : jfr h' 53 sc = jfr h 53 sc := c.2.2.2.2.1 53 sc fun z => absurd z (by decide)
  exact ⟨g.1.ck c, by rw [e53, (c.1 _).1]; exact g.2⟩
def hvA (A : List Nod) (E : TEnv) (y : Stm) : Ex Unit := match slH (smS y) with
  | some x => tApart A E (slG (smS y)) (x + 1) x
  | none => .ok ()
theorem w_selH {Q : JO → JH → Prop} (P : SkP D S A ρ sc (ss, pt, false) pt L ra rb h h1) (hA : NOK A) (ri : RI ρ A.length) (hn : (ss.map (·.1)).Nodup) (eb : EnB (ss, pt, true)) (hI1 : JInv D h1) (kd : SelR h ρ v y) (hv : ∀ x, slH (smS y) = some x → x < A.length ∧ HB A n x ∧ Apt A L x) (hg : ∀ g ∈ slG (smS y), (g, ss) ∈ L) (hd : 4 * n + 20 ≤ d)
    (hQ : ∀ h2, JInv D h2 → tCond A (ss, pt, true) (slH (smS y)) = .ok () → hvA A (ss, pt, true) y = .ok () → SkP D S A ρ sc (ss, pt, true) pt (L ++ (slH (smS y)).toList.map fun x => (x, ss)) ra rb h h2 → GsK h2 sc ρ (slG (smS y)) → jfi h2 160 v = jfi h1 160 v → W_X40_check_329 D d Q v sc h2)
    (hX : ∀ z h' c, JInv D h' → (tCond A (ss, pt, true) (slH (smS y)) >>= fun _ => hvA A (ss, pt, true) y) = .error c → SkX D S ra rb h h' z c → Q (.inr z) h') :
    ∀ h_4 : JH, h_4 = wfi h1 51 sc (1 : Int32) → (∀ h_6 : JH, h_6 = wfr h_4 53 sc (jfr h_4 147 v) → (∀ h_8 : JH, h_8 = wfi h_6 54 sc (jfi h_6 148 v) → (cX20_truth D d (jfr h_8 149 v) sc h_8 (pV D h_8 (fun h_10 => ((jfr h_10 149 v) = 0 → W_X40_check_329 D d Q v sc h_10) ∧ ((jfr h_10 149 v) ≠ 0 → cX24_grouped D d (jfr h_10 149 v) sc h_10 (pV D h_10 (fun h_14 => W_X40_check_329 D d Q v sc h_14) (jth Q)))) (jth Q))))) := by
  have kd1 : SelR h1 ρ v y := kd.sf P.1.2.1
  rintro h4 rfl h6 rfl h8 rfl
  rw [show jfr (wfi h1 51 sc 1) 147 v = jfr h1 147 v from rfl, show jfi (wfr (wfi h1 51 sc 1) 53 sc (jfr h1 147 v)) 148 v = jfi h1 148 v from by
    show jfi (wfi h1 51 sc 1) 148 v = _
    rw [jfi_wfi, if_neg (by omega)]]
  obtain ⟨hI2, P2, G2⟩ := P.agg hA hI1 kd1
  have e160 : jfi (wfi (wfr (wfi h1 51 sc 1) 53 sc (jfr h1 147 v)) 54 sc (jfi h1 148 v)) 160 v = jfi h1 160 v := by
    rw [jfi_wfi, if_neg (by omega)]
    show jfi (wfi h1 51 sc 1) 160 v = _
    rw [jfi_wfi, if_neg (by omega)]
  generalize wfi (wfr (wfi h1 51 sc 1) 53 sc (jfr h1 147 v)) 54 sc (jfi h1 148 v) = hb at hI2 P2 G2 e160 ⊢
  have kd2 : SelR hb ρ v y := kd.sf P2.1.2.1
  refine useV (w_truthP P2 hA ri hn hI2 (fun x hx => hv x hx) kd2.whe.2 (by omega)) ?_ ?_
  · rintro h3 hI3 _ ⟨t1, t2, P3⟩
    have kd3 : SelR h3 ρ v y := kd.sf P3.1.2.1
    have hH := kd3.whe.2
    have G3 := G2.ck t2
    have f160 : jfi h3 160 v = jfi h1 160 v := (t2.2.2.2.2.2 160 v (fun z => absurd z (by decide)) (fun z => by omega)).trans e160
    cases ho : slH (smS y) with
    | none =>
      rw [ho] at hH
      have hH : jfr h3 149 v = 0 := hH
      rw [ho] at P3 t1
      have := hQ h3 hI3 (by rw [ho]; exact t1) (by unfold hvA; rw [ho]) (by rw [ho]; exact P3) G3 f160
      exact ⟨fun _ => this, fun z => absurd hH z⟩
    | some x =>
      rw [ho] at hH
      have hH : jfr h3 149 v = ρ x := hH
      obtain ⟨xl, hB, ap⟩ := hv x ho
      rw [hH]
      refine ⟨fun z => absurd z (P3.1.2.2.1 x xl).1, fun _ => ?_⟩
      have px : PlA A (ss, pt, true) h3 ρ x := (P3.2 (x, ss) (List.mem_append_right _ (by rw [ho]; exact List.mem_singleton.mpr rfl))).2
      refine useV (w_grp hA P3.1.2.2.1 hI3 eb G3.1 (fun g hg' => P3.2 (g, ss) (List.mem_append_left _ (hg g hg'))) (x + 1) x d n (by omega) xl hB (by omega) px) ?_ ?_
      · rintro h5 hI5 _ ⟨a1, he5⟩
        have he5 := he5.symm
        subst he5
        exact hQ h3 hI3 t1 (by unfold hvA; rw [ho]; exact a1) P3 G3 f160
      · rintro z h5 hI5 _ ⟨a1, a2⟩
        refine hX z h5 _ hI5 ?_ ⟨h3, P3.1.1, P3.1.2.1, P3.1.2.2.2.2.2.2.1, P3.1.2.2.2.2.2.2.2, a2.fx (by decide +kernel)⟩
        rw [t1, ok_bind]
        unfold hvA
        rw [ho]
        exact a1
  · rintro z h3 hI3 _ ⟨c, c1, c2⟩
    exact hX z h3 c hI3 (by rw [c1]; rfl) c2
end
