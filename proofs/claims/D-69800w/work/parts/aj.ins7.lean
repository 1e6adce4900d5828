/-! the parser of the component: INSERT -/
section
variable {D : JD} {p s a base : Nat} {src : Str} {h h' h'' h0 : JH} {σ σ' σ'' σ0 : PS} {ρ ρ' ρ'' ρ0 : Nat → Nat} {n m n' m' : Int} {d c r w arr N : Nat} {t nm : Str} {ns : List Str}
def inV (src : Str) (nm : Str) (ns : List Str) (σ : PS) : Except Nat (Stm × PS) := pNeed true src "values" σ >>= fun q => irL src nm ns 21 [] q.2
def inN (src : Str) (nm : Str) (f : Nat) (ns : List Str) (σ : PS) : Except Nat (Stm × PS) := pNames true src f ns σ >>= fun q => pNeed true src ")" q.2 >>= fun c => inV src nm q.1 c.2
def insS (src : Str) (σ : PS) : Except Nat (Stm × PS) := pNext true src σ >>= fun q => pNeed true src "into" q.2 >>= fun i => pName true src i.2 >>= fun nm => pTake true src "(" nm.2 >>= fun b => if b.1 = true then inN src nm.1 11 [] b.2 else inV src nm.1 [] b.2
theorem inN_eq (f : Nat) (hl : ns.length ≠ 10) : inN src nm (f + 1) ns σ = (pName true src σ >>= fun c => pTake true src "," c.2 >>= fun b => if b.1 = true then inN src nm f (ns ++ [c.1]) b.2 else pNeed true src ")" b.2 >>= fun q => inV src nm (ns ++ [c.1]) q.2) := by
  unfold inN
  conv => lhs; unfold pNames
  rw [if_neg (by simpa using hl)]
  cases pName true src σ with
  | error e => rfl
  | ok c =>
    show (pTake true src "," c.2 >>= _) >>= _ = (pTake true src "," c.2 >>= _)
    cases pTake true src "," c.2 with
    | error e => rfl
    | ok b =>
      obtain ⟨b, τ⟩ := b
      cases b <;> rfl
theorem bnd0 : Bnd σ [] := fun _ hr => by cases hr
theorem w_ins87 (hI0 : JInv D h0) (hs0 : s ≤ jsz h0) {Q : JO → JH → Prop} (k : Pd D p s a base src h0 h σ0 σ ρ0 ρ) (hI : JInv D h) (u : InS (jsz h0) h ρ r nm ns []) (ho : psO σ = 0) (hd : 351 ≤ d)
    (hQ : ∀ h', JInv D h' → (∃ y σ' ρ', inV src nm ns σ = .ok (y, σ') ∧ InsR h' ρ' r y ∧ Pd D p s a base src h0 h' σ0 σ' ρ0 ρ' ∧ lp σ ≤ lp σ') → Q (.inl (some (vR 57 r))) h') (hE : ∀ y h', JInv D h' → XE p s src h0 σ0 (inV src nm ns σ) y h' → Q (.inr y) h') : W_X17_insert_87 D d Q p r h := by
  refine ⟨k.1.1.2.1, k.1.sg, ?_⟩
  rw [k.1.1.2.2.1]
  refine useV (w_needWord k.1 "values" (by decide +kernel) (by omega)) ?_ ?_
  · rintro h1 hI1 _ ⟨σ1, e1, n1, l1, q1⟩
    have kd1 : Pd D p s a base src h0 h1 σ0 σ1 ρ0 ρ := k.tr n1 (by omega) (by omega)
    have u1 := POk.inS n1 k.1 hI u bnd0
    have o1 : psO σ1 = 0 := by rw [← ho]; unfold psO; rw [q1]
    have eq1 : inV src nm ns σ = irL src nm ns 21 [] σ1 := by unfold inV; rw [e1, ok_bind]
    rw [eq1] at hQ hE
    refine ⟨21, w_insRL hI0 hs0 21 [] σ1 ρ h1 d Q kd1 hI1 u1 bnd0 o1 (by decide) hd ?_ hE⟩
    rintro h6 hI6 ⟨y6, σ6, ρ6, x1, x2, x3, x4⟩
    exact hQ h6 hI6 ⟨y6, σ6, ρ6, x1, x2, x3, by omega⟩
  · rintro y1 h1 hI1 _ ⟨er, e1, n1⟩
    exact hE y1 h1 hI1 ⟨er, by unfold inV; rw [e1]; rfl, k.err n1⟩
theorem w_insNL (hI0 : JInv D h0) (hs0 : s ≤ jsz h0) : ∀ f ns σ ρ h d (Q : JO → JH → Prop), Pd D p s a base src h0 h σ0 σ ρ0 ρ → JInv D h → InS (jsz h0) h ρ r nm ns [] → psO σ = 0 → 11 ≤ f + ns.length → 351 ≤ d →
    (∀ h', JInv D h' → (∃ y σ' ρ', inN src nm f ns σ = .ok (y, σ') ∧ InsR h' ρ' r y ∧ Pd D p s a base src h0 h' σ0 σ' ρ0 ρ' ∧ lp σ ≤ lp σ') → Q (.inl (some (vR 57 r))) h') → (∀ y h', JInv D h' → XE p s src h0 σ0 (inN src nm f ns σ) y h' → Q (.inr y) h') → L_X17_insert_43 D d Q f p r h
  | 0, ns, σ, ρ, h, d, Q, k, _, u, _, hf, _, _, _ => by
    have := u.2.2.2.1.2
    exfalso; omega
  | f + 1, ns, σ, ρ, h, d, Q, k, hI, u, ho, hf, hd, hQ, hE => by
    have hl := u.2.2.2.1.2
    have uc := u.2.2.2.1.1
    refine ⟨u.1.2.1, JW.up (n := 1) (fun _ => t_X23_named ⟨u.1.2.1, ?_⟩) (by omega)⟩
    rw [uc]
    by_cases e8 : ns.length = 10
    · refine ⟨fun z => absurd (by rw [e8]; rfl) z, fun _ => ⟨Or.inr rfl, endI fun _ _ => ⟨fun z => absurd z (by decide), fun _ => ⟨k.1.1.2.1, useR0 (w_broken k.1 (by omega)) ?_⟩⟩⟩⟩
      rintro y h1 hI1 _ n1
      refine ⟨n1.1.1, hE y h1 hI1 ⟨tkF (psT σ) + 1, ?_, k.err n1⟩⟩
      unfold inN pNames
      rw [if_pos (by simpa using e8)]; rfl
    · refine ⟨fun _ => ⟨Or.inl rfl, endI fun _ _ => ⟨fun _ => ⟨k.1.1.2.1, k.1.sg, ?_⟩, fun z => absurd rfl z⟩⟩, fun z => absurd ((nI_eq (b := 10) (by omega) (by omega)).mp z) e8⟩
      rw [k.1.1.2.2.1]
      have eq0 := inN_eq (src := src) (nm := nm) (σ := σ) f e8
      refine useR (w_name k.1 (by omega)) ?_ ?_
      · rintro v1 h1 hI1 _ ⟨c1, σ1, e1, s1, n1, l1, q1⟩
        have kd1 : Pd D p s a base src h0 h1 σ0 σ1 ρ0 ρ := k.tr n1 (by omega) (by omega)
        have u1 := POk.inS n1 k.1 hI u bnd0
        have o1 : psO σ1 = 0 := by rw [← ho]; unfold psO; rw [q1]
        refine useV0 (w_insName kd1 hI0 hs0 u1 (by omega) s1 (by omega)) ?_
        rintro h2 hI2 _ ⟨kd2, u2⟩
        refine ⟨kd2.1.sg, ?_⟩
        rw [kd2.1.1.2.2.1]
        refine useI (w_takes kd2.1 "," (by decide +kernel) (by omega)) ?_ ?_
        · rintro v5 h5 hI5 _ ⟨b, σ5, e5, rfl, n5, q5, t5, f5⟩
          have ml5 := n5.2.2.2.2.2
          have kd5 : Pd D p s a base src h0 h5 σ0 σ5 ρ0 ρ := Pd.tr kd2 n5 (by omega) (by omega)
          have u5 := POk.inS n5 kd2.1 hI2 u2 bnd0
          have o5 : psO σ5 = 0 := by rw [← o1]; unfold psO; rw [q5]
          cases b with
          | true =>
            refine ⟨fun _ => ?_, fun z => absurd z (by decide)⟩
            have eq1 : inN src nm (f + 1) ns σ = inN src nm f (ns ++ [c1]) σ5 := by rw [eq0, e1, ok_bind, e5, ok_bind]; rfl
            rw [eq1] at hQ hE
            refine w_insNL hI0 hs0 f _ σ5 ρ h5 d Q kd5 hI5 u5 o5 (by simp; omega) hd ?_ hE
            rintro h6 hI6 ⟨y6, σ6, ρ6, x1, x2, x3, x4⟩
            exact hQ h6 hI6 ⟨y6, σ6, ρ6, x1, x2, x3, by omega⟩
          | false =>
            refine ⟨fun z => absurd rfl z, fun _ => ⟨kd5.1.sg, ?_⟩⟩
            rw [kd5.1.1.2.2.1]
            have eq1 : inN src nm (f + 1) ns σ = (pNeed true src ")" σ5 >>= fun q => inV src nm (ns ++ [c1]) q.2) := by rw [eq0, e1, ok_bind, e5, ok_bind]; rfl
            refine useV (w_need kd5.1 ")" (by decide +kernel) (by omega)) ?_ ?_
            · rintro h6 hI6 _ ⟨σ6, e6, n6, l6, q6⟩
              have kd6 : Pd D p s a base src h0 h6 σ0 σ6 ρ0 ρ := kd5.tr n6 (by omega) (by omega)
              have u6 := POk.inS n6 kd5.1 hI5 u5 bnd0
              have o6 : psO σ6 = 0 := by rw [← o5]; unfold psO; rw [q6]
              have eq2 : inN src nm (f + 1) ns σ = inV src nm (ns ++ [c1]) σ6 := by rw [eq1, e6, ok_bind]
              rw [eq2] at hQ hE
              refine w_ins87 hI0 hs0 kd6 hI6 u6 o6 hd ?_ hE
              rintro h7 hI7 ⟨y7, σ7, ρ7, x1, x2, x3, x4⟩
              exact hQ h7 hI7 ⟨y7, σ7, ρ7, x1, x2, x3, by omega⟩
            · rintro y6 h6 hI6 _ ⟨er, e6, n6⟩
              exact hE y6 h6 hI6 ⟨er, by rw [eq1, e6]; rfl, kd5.err n6⟩
        · rintro y5 h5 hI5 _ ⟨er, e5, n5⟩
          exact hE y5 h5 hI5 ⟨er, by rw [eq0, e1, ok_bind, e5]; rfl, Pd.err kd2 n5⟩
      · rintro y1 h1 hI1 _ ⟨er, e1, n1⟩
        exact hE y1 h1 hI1 ⟨er, by rw [eq0, e1]; rfl, k.err n1⟩
theorem w_insert (k : PsR D p s a base src h σ ρ) (ho : psO σ = 0) (hk : tkK (psT σ) ≠ 0) (hd : 352 ≤ d) :
    cX17_insert D d p h (pR D h 57 (OP D p s a base src h σ ρ (fun h' ρ' v y => InsR h' ρ' v y) (insS src σ)) (XE p s src h σ (insS src σ))) := by
  obtain ⟨e, rfl, he⟩ := dsucc hd
  refine JW.inv fun hI => t_X17_insert ⟨k.1.2.1, k.sg, ?_⟩
  rw [k.1.2.2.1]
  have sh : s ≤ jsz h := POk.s0 k hI
  refine useV (w_next k hk (by omega)) ?_ ?_
  · rintro h1 hI1 _ ⟨σ1, e1, n1, l1, q1⟩
    have kd1 : Pd D p s a base src h h1 σ σ1 ρ ρ := n1.pok.mono (by omega) (by omega)
    refine ⟨n1.1.sg, ?_⟩
    rw [n1.1.1.2.2.1]
    refine useV (w_needWord n1.1 "into" (by decide +kernel) (by omega)) ?_ ?_
    · rintro h2 hI2 _ ⟨σ2, e2, n2, l2, q2⟩ r3 h3 rfl rfl
      have kd2 := POk.tr kd1 n2
      have lt2 : jsz h ≤ jsz h2 := kd2.2.1.2.2.2.1.1
      have hI3 := hI2.nO (k := 19) (N := 8) (by decide)
      have n3 := kd2.nO (kk := 19) (N := 8) hI2 hI sh rfl
      have p3 : POk D p s a base src h (nwo h2 19 8) σ σ2 ρ ρ (40 * (lp σ2 - lp σ) - 4) (1200 * (lp σ2 - lp σ) - 60) := n3.mono (by omega) (by omega)
      have kd3 : Pd D p s a base src h (nwo h2 19 8) σ σ2 ρ ρ := n3.mono (by omega) (by omega)
      have sk : jkd (nwo h2 19 8) (jsz h2 + 1) = 19 := by simp only [jkd_wfi, jln_wfi, jfi_wfi, jfl_wfi, jfr_wfi, jai_wfi, jal_wfi, jar_wfi, jsz_wfi, jus_wfi, jkd_wfl, jln_wfl, jfi_wfl, jfl_wfl, jfr_wfl, jai_wfl, jal_wfl, jar_wfl, jsz_wfl, jus_wfl, jkd_wfr, jln_wfr, jfi_wfr, jfl_wfr, jfr_wfr, jai_wfr, jal_wfr, jar_wfr, jsz_wfr, jus_wfr, jkd_wai, jln_wai, jfi_wai, jfl_wai, jfr_wai, jai_wai, jal_wai, jar_wai, jsz_wai, jus_wai, jkd_wal, jln_wal, jfi_wal, jfl_wal, jfr_wal, jai_wal, jal_wal, jar_wal, jsz_wal, jus_wal, jkd_war, jln_war, jfi_war, jfl_war, jfr_war, jai_war, jal_war, jar_war, jsz_war, jus_war, jkd_nwo, jln_nwo, jfi_nwo, jfl_nwo, jfr_nwo, jai_nwo, jal_nwo, jar_nwo, jsz_nwo, jus_nwo, jkd_nwa, jln_nwa, jfi_nwa, jfl_nwa, jfr_nwa, jai_nwa, jal_nwa, jar_nwa, jsz_nwa, jus_nwa, jkd_cpa, jln_cpa, jfi_cpa, jfl_cpa, jfr_cpa, jai_cpa, jal_cpa, jar_cpa, jsz_cpa, jus_cpa, if_true]
      refine ⟨kd3.1.sg, ?_⟩
      rw [kd3.1.1.2.2.1]
      refine useR (w_name kd3.1 (by omega)) ?_ ?_
      · rintro v4 h4 hI4 _ ⟨nm, σ4, e4, s4, n4, l4, q4⟩
        have p4 : POk D p s a base src h h4 σ σ4 ρ ρ (40 * (lp σ4 - lp σ) - 4) (1200 * (lp σ4 - lp σ) - 60) := (POk.tr p3 n4).mono (by omega) (by omega)
        have sm := POk.obj n4 kd3.1 hI3 (q := jsz h2 + 1) (by rw [sk]; decide)
        refine useV0 (w_insInit p4 hI sh (by rw [sm.kd]; exact sk) (by omega) s4 (by rw [sm.fi, sm.fi]; exact ⟨hI2.zi (Nat.lt_succ_self _) 102, hI2.zi (Nat.lt_succ_self _) 105⟩) (by omega)) ?_
        rintro h5 hI5 _ ⟨n5, u5⟩
        have kd5 : Pd D p s a base src h h5 σ σ4 ρ ρ := n5.mono (by omega) (by omega)
        have o4 : psO σ4 = 0 := by rw [← ho]; unfold psO; rw [q4, q2, q1]
        refine ⟨kd5.1.sg, ?_⟩
        rw [kd5.1.1.2.2.1]
        refine useI (w_takes kd5.1 "(" (by decide +kernel) (by omega)) ?_ ?_
        · rintro v6 h6 hI6 _ ⟨b, σ6, e6, rfl, n6, q6, t6, f6⟩
          have ml6 := n6.2.2.2.2.2
          have kd6 : Pd D p s a base src h h6 σ σ6 ρ ρ := kd5.tr n6 (by omega) (by omega)
          have u6 := POk.inS n6 kd5.1 hI5 u5 bnd0
          have o6 : psO σ6 = 0 := by rw [← o4]; unfold psO; rw [q6]
          cases b with
          | true =>
            have eq0 : insS src σ = inN src nm 11 [] σ6 := by unfold insS; rw [e1, ok_bind, e2, ok_bind, e4, ok_bind, e6, ok_bind]; rfl
            refine ⟨fun z => absurd z (by decide), fun _ => ⟨11, w_insNL (h0 := h) hI sh 11 [] σ6 ρ h6 e _ kd6 hI6 u6 o6 (by decide) (by omega) ?_ ?_⟩⟩
            · rintro h7 hI7 ⟨y, σ7, ρ7, e7, c7, k7, l7⟩
              exact endR fun _ _ _ => ⟨y, σ7, ρ7, by rw [eq0]; exact e7, c7, by omega, k7, by omega⟩
            · rintro y7 h7 hI7 ⟨er, e7, x7⟩
              exact endX fun _ _ => ⟨er, by rw [eq0]; exact e7, x7⟩
          | false =>
            have eq0 : insS src σ = inV src nm [] σ6 := by unfold insS; rw [e1, ok_bind, e2, ok_bind, e4, ok_bind, e6, ok_bind]; rfl
            refine ⟨fun _ => w_ins87 (h0 := h) hI sh kd6 hI6 u6 o6 (by omega) ?_ ?_, fun z => absurd rfl z⟩
            · rintro h7 hI7 ⟨y, σ7, ρ7, e7, c7, k7, l7⟩
              exact endR fun _ _ _ => ⟨y, σ7, ρ7, by rw [eq0]; exact e7, c7, by omega, k7, by omega⟩
            · rintro y7 h7 hI7 ⟨er, e7, x7⟩
              exact endX fun _ _ => ⟨er, by rw [eq0]; exact e7, x7⟩
        · rintro y6 h6 hI6 _ ⟨er, e6, n6⟩
          exact endX fun _ _ => ⟨er, by unfold insS; rw [e1, ok_bind, e2, ok_bind, e4, ok_bind, e6]; rfl, kd5.err n6⟩
      · rintro y4 h4 hI4 _ ⟨er, e4, n4⟩
        exact endX fun _ _ => ⟨er, by unfold insS; rw [e1, ok_bind, e2, ok_bind, e4]; rfl, kd3.err n4⟩
    · rintro y2 h2 hI2 _ ⟨er, e2, n2⟩
      exact endX fun _ _ => ⟨er, by unfold insS; rw [e1, ok_bind, e2]; rfl, kd1.err n2⟩
  · rintro y1 h1 hI1 _ ⟨er, e1, n1⟩
    exact endX fun _ _ => ⟨er, by unfold insS; rw [e1]; rfl, n1.up⟩
end
