/-! the parser of the component: columns of a new table -/
section
variable {D : JD} {p s a base : Nat} {src : Str} {h h' h'' h0 : JH} {σ σ' σ'' σ0 : PS} {ρ ρ' ρ'' ρ0 : Nat → Nat} {n m n' m' : Int} {d c r : Nat}
theorem POk.colR {v : Col} (k : POk D p s a base src h h' σ σ' ρ ρ' n m) (k0 : PsR D p s a base src h σ ρ) (hI : JInv D h) (kc : ColR D h c v) : ColR D h' c v := kc.of (k.obj k0 hI (by rw [kc.2.1]; decide)) k.2.1.2.2.2.2
theorem ColR.lt {v : Col} (kc : ColR D h c v) (hI : JInv D h) : c ≤ jsz h := hI.lt (by rw [kc.2.1]; decide)
theorem ColR.bs {v : Col} (kc : ColR D h c v) (hI : JInv D h) : jbs D < c := hI.2.1 c (by rw [kc.2.1]; decide)
theorem ColR.nd {nm : Str} {ty : Nat} {nd un : Bool} (kc : ColR D h c (nm, ty, nd, un)) : ColR D (wfi h 94 c 1) c (nm, ty, true, un) := by
  obtain ⟨k1, k2, k3, k4, k5, k6⟩ := kc
  have z1 := k3.2.1
  have z2 := k3.2.2.2.2.1
  refine ⟨k1, k2, k3.of (same_wfi fun e => by rw [e] at z1; omega) (same_wfi fun e => by rw [e] at z2; omega), k4, by simp only [jkd_wfi, jln_wfi, jfi_wfi, jfl_wfi, jfr_wfi, jai_wfi, jal_wfi, jar_wfi, jsz_wfi, jus_wfi, jkd_wfl, jln_wfl, jfi_wfl, jfl_wfl, jfr_wfl, jai_wfl, jal_wfl, jar_wfl, jsz_wfl, jus_wfl, jkd_wfr, jln_wfr, jfi_wfr, jfl_wfr, jfr_wfr, jai_wfr, jal_wfr, jar_wfr, jsz_wfr, jus_wfr, jkd_wai, jln_wai, jfi_wai, jfl_wai, jfr_wai, jai_wai, jal_wai, jar_wai, jsz_wai, jus_wai, jkd_wal, jln_wal, jfi_wal, jfl_wal, jfr_wal, jai_wal, jal_wal, jar_wal, jsz_wal, jus_wal, jkd_war, jln_war, jfi_war, jfl_war, jfr_war, jai_war, jal_war, jar_war, jsz_war, jus_war, jkd_nwo, jln_nwo, jfi_nwo, jfl_nwo, jfr_nwo, jai_nwo, jal_nwo, jar_nwo, jsz_nwo, jus_nwo, jkd_nwa, jln_nwa, jfi_nwa, jfl_nwa, jfr_nwa, jai_nwa, jal_nwa, jar_nwa, jsz_nwa, jus_nwa, jkd_cpa, jln_cpa, jfi_cpa, jfl_cpa, jfr_cpa, jai_cpa, jal_cpa, jar_cpa, jsz_cpa, jus_cpa, and_self, if_true], by simp only [jkd_wfi, jln_wfi, jfi_wfi, jfl_wfi, jfr_wfi, jai_wfi, jal_wfi, jar_wfi, jsz_wfi, jus_wfi, jkd_wfl, jln_wfl, jfi_wfl, jfl_wfl, jfr_wfl, jai_wfl, jal_wfl, jar_wfl, jsz_wfl, jus_wfl, jkd_wfr, jln_wfr, jfi_wfr, jfl_wfr, jfr_wfr, jai_wfr, jal_wfr, jar_wfr, jsz_wfr, jus_wfr, jkd_wai, jln_wai, jfi_wai, jfl_wai, jfr_wai, jai_wai, jal_wai, jar_wai, jsz_wai, jus_wai, jkd_wal, jln_wal, jfi_wal, jfl_wal, jfr_wal, jai_wal, jal_wal, jar_wal, jsz_wal, jus_wal, jkd_war, jln_war, jfi_war, jfl_war, jfr_war, jai_war, jal_war, jar_war, jsz_war, jus_war, jkd_nwo, jln_nwo, jfi_nwo, jfl_nwo, jfr_nwo, jai_nwo, jal_nwo, jar_nwo, jsz_nwo, jus_nwo, jkd_nwa, jln_nwa, jfi_nwa, jfl_nwa, jfr_nwa, jai_nwa, jal_nwa, jar_nwa, jsz_nwa, jus_nwa, jkd_cpa, jln_cpa, jfi_cpa, jfl_cpa, jfr_cpa, jai_cpa, jal_cpa, jar_cpa, jsz_cpa, jus_cpa, Nat.reduceEqDiff, false_and, if_false]; exact k6⟩
theorem ColR.un {nm : Str} {ty : Nat} {nd un : Bool} (kc : ColR D h c (nm, ty, nd, un)) : ColR D (wfi h 95 c 1) c (nm, ty, nd, true) := by
  obtain ⟨k1, k2, k3, k4, k5, k6⟩ := kc
  have z1 := k3.2.1
  have z2 := k3.2.2.2.2.1
  refine ⟨k1, k2, k3.of (same_wfi fun e => by rw [e] at z1; omega) (same_wfi fun e => by rw [e] at z2; omega), k4, by simp only [jkd_wfi, jln_wfi, jfi_wfi, jfl_wfi, jfr_wfi, jai_wfi, jal_wfi, jar_wfi, jsz_wfi, jus_wfi, jkd_wfl, jln_wfl, jfi_wfl, jfl_wfl, jfr_wfl, jai_wfl, jal_wfl, jar_wfl, jsz_wfl, jus_wfl, jkd_wfr, jln_wfr, jfi_wfr, jfl_wfr, jfr_wfr, jai_wfr, jal_wfr, jar_wfr, jsz_wfr, jus_wfr, jkd_wai, jln_wai, jfi_wai, jfl_wai, jfr_wai, jai_wai, jal_wai, jar_wai, jsz_wai, jus_wai, jkd_wal, jln_wal, jfi_wal, jfl_wal, jfr_wal, jai_wal, jal_wal, jar_wal, jsz_wal, jus_wal, jkd_war, jln_war, jfi_war, jfl_war, jfr_war, jai_war, jal_war, jar_war, jsz_war, jus_war, jkd_nwo, jln_nwo, jfi_nwo, jfl_nwo, jfr_nwo, jai_nwo, jal_nwo, jar_nwo, jsz_nwo, jus_nwo, jkd_nwa, jln_nwa, jfi_nwa, jfl_nwa, jfr_nwa, jai_nwa, jal_nwa, jar_nwa, jsz_nwa, jus_nwa, jkd_cpa, jln_cpa, jfi_cpa, jfl_cpa, jfr_cpa, jai_cpa, jal_cpa, jar_cpa, jsz_cpa, jus_cpa, Nat.reduceEqDiff, false_and, if_false]; exact k5, by simp only [jkd_wfi, jln_wfi, jfi_wfi, jfl_wfi, jfr_wfi, jai_wfi, jal_wfi, jar_wfi, jsz_wfi, jus_wfi, jkd_wfl, jln_wfl, jfi_wfl, jfl_wfl, jfr_wfl, jai_wfl, jal_wfl, jar_wfl, jsz_wfl, jus_wfl, jkd_wfr, jln_wfr, jfi_wfr, jfl_wfr, jfr_wfr, jai_wfr, jal_wfr, jar_wfr, jsz_wfr, jus_wfr, jkd_wai, jln_wai, jfi_wai, jfl_wai, jfr_wai, jai_wai, jal_wai, jar_wai, jsz_wai, jus_wai, jkd_wal, jln_wal, jfi_wal, jfl_wal, jfr_wal, jai_wal, jal_wal, jar_wal, jsz_wal, jus_wal, jkd_war, jln_war, jfi_war, jfl_war, jfr_war, jai_war, jal_war, jar_war, jsz_war, jus_war, jkd_nwo, jln_nwo, jfi_nwo, jfl_nwo, jfr_nwo, jai_nwo, jal_nwo, jar_nwo, jsz_nwo, jus_nwo, jkd_nwa, jln_nwa, jfi_nwa, jfl_nwa, jfr_nwa, jai_nwa, jal_nwa, jar_nwa, jsz_nwa, jus_nwa, jkd_cpa, jln_cpa, jfi_cpa, jfl_cpa, jfr_cpa, jai_cpa, jal_cpa, jar_cpa, jsz_cpa, jus_cpa, and_self, if_true]⟩
theorem w_modsL (hI0 : JInv D h0) (hs0 : s ≤ jsz h0) (hc : jsz h0 < c) (nm : Str) (ty : Nat) : ∀ (f : Nat) nd un σ h d (Q : JO → JH → Prop), Pd D p s a base src h0 h σ0 σ ρ0 ρ → JInv D h → ColR D h c (nm, ty, nd, un) → src.length + 2 ≤ (f : Int) + lp σ → 12 ≤ d →
    (∀ h', JInv D h' → (∃ x σ', pMods true src f nd un σ = .ok (x, σ') ∧ ColR D h' c (nm, ty, x.1, x.2) ∧ Pd D p s a base src h0 h' σ0 σ' ρ0 ρ ∧ lp σ ≤ lp σ') → Q (.inl (some (vR 16 c))) h') → (∀ y h', JInv D h' → XE p s src h0 σ0 (pMods true src f nd un σ) y h' → Q (.inr y) h') → L_X17_column_89 D d Q f p c h
  | 0, nd, un, σ, h, d, Q, k, _, _, hf, _, _, _ => by
    have := k.1.lpl
    exfalso; omega
  | f + 1, nd, un, σ, h, d, Q, k, hI, kc, hf, hd, hQ, hE => by
    refine ⟨k.1.1.2.1, k.1.sg, ?_⟩
    rw [k.1.1.2.2.1]
    refine useI (w_takesWord k.1 "not" (by decide +kernel) (by omega)) ?_ ?_
    · rintro v1 h1 hI1 _ ⟨b, σ1, e1, rfl, n1, q1, t1, f1⟩
      cases b with
      | true =>
        obtain ⟨i1, en, l1⟩ := t1 rfl
        refine ⟨fun z => absurd z (by decide), fun _ => ⟨n1.1.sg, ?_⟩⟩
        rw [n1.1.1.2.2.1]
        have kd1 : Pd D p s a base src h0 h1 σ0 σ1 ρ0 ρ := k.tr n1 (by omega) (by omega)
        have kc1 := n1.colR k.1 hI kc
        have eq0 : pMods true src (f + 1) nd un σ = (pNeed true src "null" σ1 >>= fun q => pMods true src f true un q.2) := by
          conv => lhs; unfold pMods
          rw [if_pos i1, en]; rfl
        refine useV (w_needWord n1.1 "null" (by decide +kernel) (by omega)) ?_ ?_
        · rintro h2 hI2 _ ⟨σ2, e2, n2, l2, q2⟩
          have kd2 : Pd D p s a base src h0 h2 σ0 σ2 ρ0 ρ := kd1.tr n2 (by omega) (by omega)
          have kc2 := n2.colR n1.1 hI1 kc1
          refine ⟨kc2.1, ?_⟩
          rintro h3 rfl
          have kd3 : Pd D p s a base src h0 (wfi h2 94 c 1) σ0 σ2 ρ0 ρ := POk.sfi kd2 hI2 hI0 hs0 (by rw [kc2.2.1]; decide) hc
          have hI3 : JInv D (wfi h2 94 c 1) := hI2.wfi (kc2.bs hI2) (kc2.lt hI2)
          refine w_modsL hI0 hs0 hc nm ty f true un σ2 _ d Q kd3 hI3 kc2.nd (by omega) hd ?_ ?_
          · rintro h4 hI4 ⟨x, σ4, e4, x4, x5, x6⟩
            exact hQ h4 hI4 ⟨x, σ4, by rw [eq0, e2, ok_bind]; exact e4, x4, x5, by omega⟩
          · rintro y4 h4 hI4 ⟨er, e4, x4⟩
            exact hE y4 h4 hI4 ⟨er, by rw [eq0, e2, ok_bind]; exact e4, x4⟩
        · rintro y2 h2 hI2 _ ⟨er, e2, n2⟩
          exact hE y2 h2 hI2 ⟨er, by rw [eq0, e2]; rfl, kd1.err n2⟩
      | false =>
        obtain ⟨i1, rfl, rfl⟩ := f1 rfl
        refine ⟨fun _ => ⟨k.1.sg, ?_⟩, fun z => absurd rfl z⟩
        rw [k.1.1.2.2.1]
        refine useI (w_takesWord k.1 "unique" (by decide +kernel) (by omega)) ?_ ?_
        · rintro v2 h2 hI2 _ ⟨b, σ2, e2, rfl, n2, q2, t2, f2⟩
          cases b with
          | true =>
            obtain ⟨i2, en, l2⟩ := t2 rfl
            have kc2 := n2.colR k.1 hI kc
            refine ⟨fun z => absurd z (by decide), fun _ => ⟨kc2.1, ?_⟩⟩
            rintro h3 rfl
            have kd2 : Pd D p s a base src h0 h2 σ0 σ2 ρ0 ρ := k.tr n2 (by omega) (by omega)
            have kd3 : Pd D p s a base src h0 (wfi h2 95 c 1) σ0 σ2 ρ0 ρ := POk.sfi kd2 hI2 hI0 hs0 (by rw [kc2.2.1]; decide) hc
            have hI3 : JInv D (wfi h2 95 c 1) := hI2.wfi (kc2.bs hI2) (kc2.lt hI2)
            have eq0 : pMods true src (f + 1) nd un σ1 = pMods true src f nd true σ2 := by
              conv => lhs; unfold pMods
              rw [if_neg (by rw [i1]; simp), if_pos i2, en]; rfl
            rw [eq0] at hQ hE
            exact w_modsL hI0 hs0 hc nm ty f nd true σ2 _ d Q kd3 hI3 kc2.un (by omega) hd (fun h' hI' ⟨x, σ', x1, x2, x3, x4⟩ => hQ h' hI' ⟨x, σ', x1, x2, x3, by omega⟩) hE
          | false =>
            obtain ⟨i2, rfl, rfl⟩ := f2 rfl
            refine ⟨fun _ => ⟨k.1.sg, ?_⟩, fun z => absurd rfl z⟩
            rw [k.1.1.2.2.1]
            refine useI (w_takesWord k.1 "primary" (by decide +kernel) (by omega)) ?_ ?_
            · rintro v3 h3 hI3 _ ⟨b, σ3, e3, rfl, n3, q3, t3, f3⟩
              cases b with
              | true =>
                obtain ⟨i3, en, l3⟩ := t3 rfl
                refine ⟨fun z => absurd z (by decide), fun _ => ⟨n3.1.sg, ?_⟩⟩
                rw [n3.1.1.2.2.1]
                have kd3 : Pd D p s a base src h0 h3 σ0 σ3 ρ0 ρ := k.tr n3 (by omega) (by omega)
                have kc3 := n3.colR k.1 hI kc
                have eq0 : pMods true src (f + 1) nd un σ2 = (pNeed true src "key" σ3 >>= fun q => pMods true src f true true q.2) := by
                  conv => lhs; unfold pMods
                  rw [if_neg (by rw [i1]; simp), if_neg (by rw [i2]; simp), if_pos i3, en]; rfl
                refine useV (w_needWord n3.1 "key" (by decide +kernel) (by omega)) ?_ ?_
                · rintro h4 hI4 _ ⟨σ4, e4, n4, l4, q4⟩
                  have kd4 : Pd D p s a base src h0 h4 σ0 σ4 ρ0 ρ := kd3.tr n4 (by omega) (by omega)
                  have kc4 := n4.colR n3.1 hI3 kc3
                  refine ⟨kc4.1, ?_⟩
                  rintro h5 rfl h6 rfl
                  have kd5 : Pd D p s a base src h0 (wfi h4 94 c 1) σ0 σ4 ρ0 ρ := POk.sfi kd4 hI4 hI0 hs0 (by rw [kc4.2.1]; decide) hc
                  have hI5 : JInv D (wfi h4 94 c 1) := hI4.wfi (kc4.bs hI4) (kc4.lt hI4)
                  have kc5 := kc4.nd
                  have kd6 : Pd D p s a base src h0 (wfi (wfi h4 94 c 1) 95 c 1) σ0 σ4 ρ0 ρ := POk.sfi kd5 hI5 hI0 hs0 (by rw [kc5.2.1]; decide) hc
                  have hI6 : JInv D (wfi (wfi h4 94 c 1) 95 c 1) := hI5.wfi (kc5.bs hI5) (kc5.lt hI5)
                  refine w_modsL hI0 hs0 hc nm ty f true true σ4 _ d Q kd6 hI6 kc5.un (by omega) hd ?_ ?_
                  · rintro h7 hI7 ⟨x, σ7, e7, x7, x8, x9⟩
                    exact hQ h7 hI7 ⟨x, σ7, by rw [eq0, e4, ok_bind]; exact e7, x7, x8, by omega⟩
                  · rintro y7 h7 hI7 ⟨er, e7, x7⟩
                    exact hE y7 h7 hI7 ⟨er, by rw [eq0, e4, ok_bind]; exact e7, x7⟩
                · rintro y4 h4 hI4 _ ⟨er, e4, n4⟩
                  exact hE y4 h4 hI4 ⟨er, by rw [eq0, e4]; rfl, kd3.err n4⟩
              | false =>
                obtain ⟨i3, rfl, rfl⟩ := f3 rfl
                refine ⟨fun _ => hQ h3 hI ⟨(nd, un), σ3, ?_, kc, k, Int.le_refl _⟩, fun z => absurd rfl z⟩
                unfold pMods
                rw [if_neg (by rw [i1]; simp), if_neg (by rw [i2]; simp), if_neg (by rw [i3]; simp)]
            · rintro y3 h3 hI3 _ ⟨er, e3, n3⟩
              obtain ⟨i3, en⟩ := takeE e3
              refine hE y3 h3 hI3 ⟨er, ?_, k.err n3⟩
              unfold pMods
              rw [if_neg (by rw [i1]; simp), if_neg (by rw [i2]; simp), if_pos i3, en]; rfl
        · rintro y2 h2 hI2 _ ⟨er, e2, n2⟩
          obtain ⟨i2, en⟩ := takeE e2
          refine hE y2 h2 hI2 ⟨er, ?_, k.err n2⟩
          unfold pMods
          rw [if_neg (by rw [i1]; simp), if_pos i2, en]; rfl
    · rintro y1 h1 hI1 _ ⟨er, e1, n1⟩
      obtain ⟨i1, en⟩ := takeE e1
      refine hE y1 h1 hI1 ⟨er, ?_, k.err n1⟩
      unfold pMods
      rw [if_pos i1, en]; rfl
theorem lp_0 : 0 ≤ lp σ := by unfold lp; omega
/-- what a step that makes an object gives -/
def OP {α : Type} (D : JD) (p s a base : Nat) (src : Str) (h : JH) (σ : PS) (ρ : Nat → Nat) (R : JH → (Nat → Nat) → Nat → α → Prop) (x : Except Nat (α × PS)) (v : Nat) (h' : JH) : Prop :=
  ∃ y σ' ρ', x = .ok (y, σ') ∧ R h' ρ' v y ∧ jsz h < v ∧ Pd D p s a base src h h' σ σ' ρ ρ' ∧ lp σ + 1 ≤ lp σ'
theorem w_column (k : PsR D p s a base src h σ ρ) (hd : 13 ≤ d) :
    cX17_column D d p h (pR D h 16 (OP D p s a base src h σ ρ (fun h' _ v y => ColR D h' v y) (pColumn true src σ)) (XE p s src h σ (pColumn true src σ))) := by
  obtain ⟨e, rfl, he⟩ := dsucc hd
  refine JW.inv fun hI => t_X17_column ⟨k.1.2.1, k.sg, ?_⟩
  rw [k.1.2.2.1]
  have sh : s ≤ jsz h := POk.s0 k hI
  refine useR (w_name k (by omega)) ?_ ?_
  · rintro v1 h1 hI1 _ ⟨nm, σ1, e1, s1, n1, l1, q1⟩
    have kd1 : Pd D p s a base src h h1 σ σ1 ρ ρ := n1.pok.mono (by omega) (by omega)
    -- the type is known
    have go : ∀ (ty : Nat), (pIs σ1 "int" || (pIs σ1 "text" || pIs σ1 "bool")) = true → (if pIs σ1 "int" = true then 20 else if pIs σ1 "text" = true then 25 else 16) = ty → W_X17_column_72 D e (pR D h 16 (OP D p s a base src h σ ρ (fun h' _ v y => ColR D h' v y) (pColumn true src σ)) (XE p s src h σ (pColumn true src σ))) p v1 (tyc D ty) h1 := by
      intro ty hi hty
      have eq0 : pColumn true src σ = (pNext true src σ1 >>= fun q => pMods true src (src.length + 1) false false q.2 >>= fun r => .ok ((nm, ty, r.1.1, r.1.2), r.2)) := by
        unfold pColumn
        rw [e1, ok_bind]
        show (if (!(pIs σ1 "int" || (pIs σ1 "text" || pIs σ1 "bool"))) = true then _ else _) = _
        rw [if_neg (by rw [hi]; simp), ← hty]
      have hk0 : tkK (psT σ1) ≠ 0 := fun z => by
        have hk0 : ∀ s, pIs σ1 s = false := fun s => by unfold pIs; rw [z]; rfl
        rw [hk0, hk0, hk0] at hi; cases hi
      refine ⟨n1.1.1.2.1, n1.1.sg, ?_⟩
      rw [n1.1.1.2.2.1]
      refine useV (w_next n1.1 hk0 (by omega)) ?_ ?_
      · rintro h2 hI2 _ ⟨σ2, e2, n2, l2, q2⟩ r3 h3 rfl rfl
        have n12 := n1.pok.tr n2
        have lt2 : jsz h ≤ jsz h2 := n12.2.1.2.2.2.1.1
        have hI3 := hI2.nO (k := 16) (N := 4) (by decide)
        have n3 := n12.nO (kk := 16) (N := 4) hI2 hI sh rfl
        have s2 := n2.2.1.2.2.2.2 _ _ s1
        have sk : jkd (nwo h2 16 4) (jsz h2 + 1) = 16 := by simp only [jkd_wfi, jln_wfi, jfi_wfi, jfl_wfi, jfr_wfi, jai_wfi, jal_wfi, jar_wfi, jsz_wfi, jus_wfi, jkd_wfl, jln_wfl, jfi_wfl, jfl_wfl, jfr_wfl, jai_wfl, jal_wfl, jar_wfl, jsz_wfl, jus_wfl, jkd_wfr, jln_wfr, jfi_wfr, jfl_wfr, jfr_wfr, jai_wfr, jal_wfr, jar_wfr, jsz_wfr, jus_wfr, jkd_wai, jln_wai, jfi_wai, jfl_wai, jfr_wai, jai_wai, jal_wai, jar_wai, jsz_wai, jus_wai, jkd_wal, jln_wal, jfi_wal, jfl_wal, jfr_wal, jai_wal, jal_wal, jar_wal, jsz_wal, jus_wal, jkd_war, jln_war, jfi_war, jfl_war, jfr_war, jai_war, jal_war, jar_war, jsz_war, jus_war, jkd_nwo, jln_nwo, jfi_nwo, jfl_nwo, jfr_nwo, jai_nwo, jal_nwo, jar_nwo, jsz_nwo, jus_nwo, jkd_nwa, jln_nwa, jfi_nwa, jfl_nwa, jfr_nwa, jai_nwa, jal_nwa, jar_nwa, jsz_nwa, jus_nwa, jkd_cpa, jln_cpa, jfi_cpa, jfl_cpa, jfr_cpa, jai_cpa, jal_cpa, jar_cpa, jsz_cpa, jus_cpa, if_true]
        have r0 : jsz h2 + 1 ≠ 0 := Nat.succ_ne_zero _
        refine JW.up (n := 1) (fun d => t_X19_init ⟨r0, ?_⟩) (by omega)
        rintro h4 rfl h5 rfl
        have bs3 : jbs D < jsz h2 + 1 := hI3.2.1 _ (by rw [sk]; decide)
        have z1 := s2.2.1
        have z2 := s2.2.2.2.2.1
        have sl := s2.lt hI2
        have hI4 : JInv D (wfr (nwo h2 16 4) 92 (jsz h2 + 1) v1) := hI3.wfr bs3 (Nat.le_refl _) (Or.inr (by
          rw [(same_nwo (h := h2) (k := 16) (n := 4) sl.1).kd]
          rcases z1 with y | y <;> rw [y] <;> decide))
        have n4 : POk D p s a base src h (wfr (nwo h2 16 4) 92 (jsz h2 + 1) v1) σ σ2 ρ ρ _ _ := n3.sfr hI3 hI sh (by rw [sk]; decide) (by omega)
        have n5 : POk D p s a base src h (wfr (wfr (nwo h2 16 4) 92 (jsz h2 + 1) v1) 93 (jsz h2 + 1) (tyc D ty)) σ σ2 ρ ρ _ _ := n4.sfr hI4 hI sh (by show skd (jkd (nwo h2 16 4) (jsz h2 + 1)) = true; rw [sk]; decide) (by omega)
        have ne1 : v1 ≠ jsz h2 + 1 := by omega
        have ne2 : jfr h2 75 v1 ≠ jsz h2 + 1 := by omega
        have cr : ColR D (wfr (wfr (nwo h2 16 4) 92 (jsz h2 + 1) v1) 93 (jsz h2 + 1) (tyc D ty)) (jsz h2 + 1) (nm, ty, false, false) := by
          refine ⟨r0, sk, ?_, by simp only [jkd_wfi, jln_wfi, jfi_wfi, jfl_wfi, jfr_wfi, jai_wfi, jal_wfi, jar_wfi, jsz_wfi, jus_wfi, jkd_wfl, jln_wfl, jfi_wfl, jfl_wfl, jfr_wfl, jai_wfl, jal_wfl, jar_wfl, jsz_wfl, jus_wfl, jkd_wfr, jln_wfr, jfi_wfr, jfl_wfr, jfr_wfr, jai_wfr, jal_wfr, jar_wfr, jsz_wfr, jus_wfr, jkd_wai, jln_wai, jfi_wai, jfl_wai, jfr_wai, jai_wai, jal_wai, jar_wai, jsz_wai, jus_wai, jkd_wal, jln_wal, jfi_wal, jfl_wal, jfr_wal, jai_wal, jal_wal, jar_wal, jsz_wal, jus_wal, jkd_war, jln_war, jfi_war, jfl_war, jfr_war, jai_war, jal_war, jar_war, jsz_war, jus_war, jkd_nwo, jln_nwo, jfi_nwo, jfl_nwo, jfr_nwo, jai_nwo, jal_nwo, jar_nwo, jsz_nwo, jus_nwo, jkd_nwa, jln_nwa, jfi_nwa, jfl_nwa, jfr_nwa, jai_nwa, jal_nwa, jar_nwa, jsz_nwa, jus_nwa, jkd_cpa, jln_cpa, jfi_cpa, jfl_cpa, jfr_cpa, jai_cpa, jal_cpa, jar_cpa, jsz_cpa, jus_cpa, and_self, if_true], by simp only [jkd_wfi, jln_wfi, jfi_wfi, jfl_wfi, jfr_wfi, jai_wfi, jal_wfi, jar_wfi, jsz_wfi, jus_wfi, jkd_wfl, jln_wfl, jfi_wfl, jfl_wfl, jfr_wfl, jai_wfl, jal_wfl, jar_wfl, jsz_wfl, jus_wfl, jkd_wfr, jln_wfr, jfi_wfr, jfl_wfr, jfr_wfr, jai_wfr, jal_wfr, jar_wfr, jsz_wfr, jus_wfr, jkd_wai, jln_wai, jfi_wai, jfl_wai, jfr_wai, jai_wai, jal_wai, jar_wai, jsz_wai, jus_wai, jkd_wal, jln_wal, jfi_wal, jfl_wal, jfr_wal, jai_wal, jal_wal, jar_wal, jsz_wal, jus_wal, jkd_war, jln_war, jfi_war, jfl_war, jfr_war, jai_war, jal_war, jar_war, jsz_war, jus_war, jkd_nwo, jln_nwo, jfi_nwo, jfl_nwo, jfr_nwo, jai_nwo, jal_nwo, jar_nwo, jsz_nwo, jus_nwo, jkd_nwa, jln_nwa, jfi_nwa, jfl_nwa, jfr_nwa, jai_nwa, jal_nwa, jar_nwa, jsz_nwa, jus_nwa, jkd_cpa, jln_cpa, jfi_cpa, jfl_cpa, jfr_cpa, jai_cpa, jal_cpa, jar_cpa, jsz_cpa, jus_cpa]; exact hI2.zi (Nat.lt_succ_self _) 94, by simp only [jkd_wfi, jln_wfi, jfi_wfi, jfl_wfi, jfr_wfi, jai_wfi, jal_wfi, jar_wfi, jsz_wfi, jus_wfi, jkd_wfl, jln_wfl, jfi_wfl, jfl_wfl, jfr_wfl, jai_wfl, jal_wfl, jar_wfl, jsz_wfl, jus_wfl, jkd_wfr, jln_wfr, jfi_wfr, jfl_wfr, jfr_wfr, jai_wfr, jal_wfr, jar_wfr, jsz_wfr, jus_wfr, jkd_wai, jln_wai, jfi_wai, jfl_wai, jfr_wai, jai_wai, jal_wai, jar_wai, jsz_wai, jus_wai, jkd_wal, jln_wal, jfi_wal, jfl_wal, jfr_wal, jai_wal, jal_wal, jar_wal, jsz_wal, jus_wal, jkd_war, jln_war, jfi_war, jfl_war, jfr_war, jai_war, jal_war, jar_war, jsz_war, jus_war, jkd_nwo, jln_nwo, jfi_nwo, jfl_nwo, jfr_nwo, jai_nwo, jal_nwo, jar_nwo, jsz_nwo, jus_nwo, jkd_nwa, jln_nwa, jfi_nwa, jfl_nwa, jfr_nwa, jai_nwa, jal_nwa, jar_nwa, jsz_nwa, jus_nwa, jkd_cpa, jln_cpa, jfi_cpa, jfl_cpa, jfr_cpa, jai_cpa, jal_cpa, jar_cpa, jsz_cpa, jus_cpa]; exact hI2.zi (Nat.lt_succ_self _) 95⟩
          rw [show jfr (wfr (wfr (nwo h2 16 4) 92 (jsz h2 + 1) v1) 93 (jsz h2 + 1) (tyc D ty)) 92 (jsz h2 + 1) = v1 by simp only [jkd_wfi, jln_wfi, jfi_wfi, jfl_wfi, jfr_wfi, jai_wfi, jal_wfi, jar_wfi, jsz_wfi, jus_wfi, jkd_wfl, jln_wfl, jfi_wfl, jfl_wfl, jfr_wfl, jai_wfl, jal_wfl, jar_wfl, jsz_wfl, jus_wfl, jkd_wfr, jln_wfr, jfi_wfr, jfl_wfr, jfr_wfr, jai_wfr, jal_wfr, jar_wfr, jsz_wfr, jus_wfr, jkd_wai, jln_wai, jfi_wai, jfl_wai, jfr_wai, jai_wai, jal_wai, jar_wai, jsz_wai, jus_wai, jkd_wal, jln_wal, jfi_wal, jfl_wal, jfr_wal, jai_wal, jal_wal, jar_wal, jsz_wal, jus_wal, jkd_war, jln_war, jfi_war, jfl_war, jfr_war, jai_war, jal_war, jar_war, jsz_war, jus_war, jkd_nwo, jln_nwo, jfi_nwo, jfl_nwo, jfr_nwo, jai_nwo, jal_nwo, jar_nwo, jsz_nwo, jus_nwo, jkd_nwa, jln_nwa, jfi_nwa, jfl_nwa, jfr_nwa, jai_nwa, jal_nwa, jar_nwa, jsz_nwa, jus_nwa, jkd_cpa, jln_cpa, jfi_cpa, jfl_cpa, jfr_cpa, jai_cpa, jal_cpa, jar_cpa, jsz_cpa, jus_cpa, Nat.reduceEqDiff, false_and, if_false, and_self, if_true]]
          exact s2.of (((same_nwo sl.1).tr (same_wfr ne1)).tr (same_wfr ne1)) (((same_nwo sl.2).tr (same_wfr ne2)).tr (same_wfr ne2))
        refine endV fun hI5 _ => ⟨src.length + 1, ?_⟩
        have l0 := lp_0 (σ := σ1)
        refine w_modsL (h0 := h) hI sh (by omega) nm ty (src.length + 1) false false σ2 _ e _ (n5.mono (by omega) (by omega)) hI5 cr (by omega) (by omega) ?_ ?_
        · rintro h6 hI6 ⟨x, σ6, e6, c6, k6, ml6⟩
          refine endR fun _ _ _ => ⟨_, σ6, ρ, by rw [eq0, e2, ok_bind, e6]; rfl, c6, by omega, k6, ?_⟩
          have := k6.2.2.2.2.2
          have := n5.2.2.2.2.2
          have m6 : lp σ2 ≤ lp σ6 := ml6
          omega
        · rintro y6 h6 hI6 ⟨er, e6, x6⟩
          exact endX fun _ _ => ⟨er, by rw [eq0, e2, ok_bind, e6]; rfl, x6⟩
      · rintro y2 h2 hI2 _ ⟨er, e2, n2⟩
        exact endX fun _ _ => ⟨er, by rw [eq0, e2]; rfl, kd1.err n2⟩
    have c7 : ∀ {j i : Nat}, (j < 373 ∧ jenm j = true) → (i < 373 ∧ jenm i = true) → j ≠ i → jcs D j ≠ jcs D i := fun hj hi ne e => ne (kc_ne hI1 hj hi e)
    refine ⟨n1.1.sg, ?_⟩
    rw [n1.1.1.2.2.1]
    refine useI0 (w_isWord n1.1 "int" (by decide +kernel) (by omega)) ?_
    rintro v2 h2 _ _ ⟨rfl, rfl⟩
    by_cases ii : pIs σ1 "int" = true
    · rw [if_pos ii]
      exact ⟨fun z => absurd z (by decide), fun _ => ⟨fun _ => go 20 (by rw [ii]; rfl) (by rw [if_pos ii]), fun z => absurd z (c7 ⟨by decide, by decide⟩ ⟨by decide, by decide⟩ (by decide))⟩⟩
    rw [if_neg ii]
    refine ⟨fun _ => ⟨n1.1.sg, ?_⟩, fun z => absurd rfl z⟩
    rw [n1.1.1.2.2.1]
    refine useI0 (w_isWord n1.1 "text" (by decide +kernel) (by omega)) ?_
    rintro v3 h3 _ _ ⟨rfl, rfl⟩
    by_cases it : pIs σ1 "text" = true
    · rw [if_pos it]
      exact ⟨fun z => absurd z (by decide), fun _ => ⟨fun _ => go 25 (by rw [it]; simp) (by rw [if_neg ii, if_pos it]), fun z => absurd z (c7 ⟨by decide, by decide⟩ ⟨by decide, by decide⟩ (by decide))⟩⟩
    rw [if_neg it]
    refine ⟨fun _ => ⟨fun z => absurd rfl z, fun _ => ⟨n1.1.1.2.1, n1.1.sg, ?_⟩⟩, fun z => absurd rfl z⟩
    rw [n1.1.1.2.2.1]
    refine useI0 (w_isWord n1.1 "bool" (by decide +kernel) (by omega)) ?_
    rintro v4 h4 _ _ ⟨rfl, rfl⟩
    by_cases ib : pIs σ1 "bool" = true
    · rw [if_pos ib]
      exact ⟨fun _ => go 16 (by rw [ib]; simp) (by rw [if_neg ii, if_neg it]), fun z => absurd z (by decide)⟩
    rw [if_neg ib]
    refine ⟨fun z => absurd rfl z, fun _ => useR0 (w_broken n1.1 (by omega)) ?_⟩
    rintro y5 h5 hI5 _ n5
    refine ⟨n5.1.1, endX fun _ _ => ⟨tkF (psT σ1) + 1, ?_, kd1.err n5⟩⟩
    unfold pColumn
    rw [e1, ok_bind]
    show (if (!(pIs σ1 "int" || (pIs σ1 "text" || pIs σ1 "bool"))) = true then _ else _) = _
    rw [if_pos (by rw [Bool.eq_false_iff.mpr ii, Bool.eq_false_iff.mpr it, Bool.eq_false_iff.mpr ib]; rfl)]; rfl
  · rintro y1 h1 hI1 _ ⟨er, e1, n1⟩
    exact endX fun _ _ => ⟨er, by unfold pColumn; rw [e1]; rfl, n1.up⟩
end
