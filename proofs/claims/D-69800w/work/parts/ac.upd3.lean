/-! the parser of the component: UPDATE -/
section
variable {D : JD} {p s a base : Nat} {src : Str} {h h' h'' h0 : JH} {σ σ' σ'' σ0 : PS} {ρ ρ' ρ'' ρ0 : Nat → Nat} {n m n' m' : Int} {d c r w arr N : Nat} {t nm : Str} {ns : List Str} {xs : List Nat}
theorem expr_lt {x : Nat} {k : Nat} (e : pExpr true src k σ = .ok (x, σ') ) (g : Gd src σ) : x < (psA σ').length := by
  have := (x_expr (sx := true) (src := src) k σ g _ e).2.2.1
  dsimp only at this
  omega
theorem UpS.lo (u : UpS N h ρ r t ns xs) : UpS 0 h ρ r t ns xs := ⟨⟨by have := u.1.1; omega, u.1.2⟩, u.2.1, ⟨by have := u.2.2.1.1; omega, u.2.2.1.2⟩, ⟨by have := u.2.2.2.1.1; omega, u.2.2.2.1.2⟩, u.2.2.2.2⟩
theorem UpS.wh {v : Nat} (u : UpS N h ρ r t ns xs) : UpS N (wfr h 131 r v) ρ r t ns xs := by
  obtain ⟨⟨u1, u2, u3⟩, u4, ⟨u5, u6, u7⟩, ⟨u8, u9, u10⟩, u11, u12, u13, u14⟩ := u
  have sm : ∀ q, jkd h q ≠ 30 → same h (wfr h 131 r v) q := fun q z => same_wfr fun e => z (by rw [e]; exact u3)
  have st : ∀ q z, StR h q z → StR (wfr h 131 r v) q z := fun q z ks => by
    have z1 := ks.2.1
    have z2 := ks.2.2.2.2.1
    exact ks.of (sm _ (by omega)) (sm _ (by omega))
  have f : ∀ F, F ≠ 131 → jfr (wfr h 131 r v) F r = jfr h F r := fun F hF => by rw [jfr_wfr, if_neg fun z => hF z.1]
  refine ⟨⟨u1, u2, u3⟩, ⟨?_, ?_⟩, ?_, ?_, ?_, u12, u13, u14⟩
  · rw [f _ (by decide)]; exact st _ _ u4.1
  · rw [f _ (by decide)]; exact u4.2.of (sm _ (by rw [u4.2.2.1]; decide)) st
  · rw [f _ (by decide)]; exact ⟨u5, u6.of (sm _ (by rw [u6.2.1]; decide)), u7.of (sm _ (by rw [u6.2.1]; decide)) st⟩
  · rw [f _ (by decide)]; exact ⟨u8, u9.of (sm _ (by rw [u9.2.1]; decide)), u10.of (sm _ (by rw [u9.2.1]; decide)) fun _ _ => rfl⟩
  · rw [f _ (by decide)]; exact u11.of (sm _ (by rw [u11.2.1]; decide))
def UpdR (h : JH) (ρ : Nat → Nat) (v : Nat) (y : Stm) : Prop := ∃ xs, smR y = [xs] ∧ UpS 0 h ρ v (smT y) (smN y) xs ∧ OtR ρ (jfr h 131 v) (smW y)
def upW (src : Str) (nm : Str) (ns : List Str) (xs : List Nat) (σ : PS) : Except Nat (Stm × PS) := pWhere true src "where" σ >>= fun o => .ok ((3, nm, [], ns, [xs], o.1, selNone, psP o.2, psA o.2), o.2)
def upL (src : Str) (nm : Str) (f : Nat) (ns : List Str) (xs : List Nat) (σ : PS) : Except Nat (Stm × PS) := pSets true src f ns xs σ >>= fun q => upW src nm q.1.1 q.1.2 q.2
def upS (src : Str) (σ : PS) : Except Nat (Stm × PS) := pNext true src σ >>= fun q => pName true src q.2 >>= fun nm => pNeed true src "set" nm.2 >>= fun o => upL src nm.1 11 [] [] o.2
theorem upL_eq (f : Nat) (hl : ns.length ≠ 10) : upL src nm (f + 1) ns xs σ = (pName true src σ >>= fun c => pNeed true src "=" c.2 >>= fun e => pExpr true src 31 e.2 >>= fun x => pTake true src "," x.2 >>= fun b => if b.1 = true then upL src nm f (ns ++ [c.1]) (xs ++ [x.1]) b.2 else upW src nm (ns ++ [c.1]) (xs ++ [x.1]) b.2) := by
  unfold upL
  conv => lhs; unfold pSets
  rw [if_neg (by simpa using hl)]
  cases pName true src σ with
  | error e => rfl
  | ok c =>
    show (pNeed true src "=" c.2 >>= _) >>= _ = (pNeed true src "=" c.2 >>= _)
    cases pNeed true src "=" c.2 with
    | error e => rfl
    | ok e =>
      show (pExpr true src 31 e.2 >>= _) >>= _ = (pExpr true src 31 e.2 >>= _)
      cases pExpr true src 31 e.2 with
      | error e => rfl
      | ok x =>
        show (pTake true src "," x.2 >>= _) >>= _ = (pTake true src "," x.2 >>= _)
        cases pTake true src "," x.2 with
        | error e => rfl
        | ok b =>
          obtain ⟨b, τ⟩ := b
          cases b <;> rfl
theorem w_updateL (hI0 : JInv D h0) (hs0 : s ≤ jsz h0) : ∀ f ns xs σ ρ h d (Q : JO → JH → Prop), Pd D p s a base src h0 h σ0 σ ρ0 ρ → JInv D h → UpS (jsz h0) h ρ r nm ns xs → (∀ x ∈ xs, x < (psA σ).length) → psO σ = 0 → 11 ≤ f + ns.length → 351 ≤ d →
    (∀ h', JInv D h' → (∃ y σ' ρ', upL src nm f ns xs σ = .ok (y, σ') ∧ UpdR h' ρ' r y ∧ Pd D p s a base src h0 h' σ0 σ' ρ0 ρ' ∧ lp σ ≤ lp σ') → Q (.inl (some (vR 57 r))) h') → (∀ y h', JInv D h' → XE p s src h0 σ0 (upL src nm f ns xs σ) y h' → Q (.inr y) h') → L_X17_update_31 D d Q f p r h
  | 0, ns, xs, σ, ρ, h, d, Q, k, _, u, _, _, hf, _, _, _ => by
    have := u.2.2.2.2.2.2.2
    exfalso; omega
  | f + 1, ns, xs, σ, ρ, h, d, Q, k, hI, u, hx, ho, hf, hd, hQ, hE => by
    have hl := u.2.2.2.2.2.2.2
    have uc := u.2.2.2.2.2.1
    refine ⟨u.1.2.1, JW.up (n := 1) (fun _ => t_X37_full ⟨u.1.2.1, ?_⟩) (by omega)⟩
    rw [uc]
    by_cases e8 : ns.length = 10
    · refine ⟨fun z => absurd (by rw [e8]; rfl) z, fun _ => ⟨Or.inr rfl, endI fun _ _ => ⟨fun z => absurd z (by decide), fun _ => ⟨k.1.1.2.1, useR0 (w_broken k.1 (by omega)) ?_⟩⟩⟩⟩
      rintro y h1 hI1 _ n1
      refine ⟨n1.1.1, hE y h1 hI1 ⟨tkF (psT σ) + 1, ?_, k.err n1⟩⟩
      unfold upL pSets
      rw [if_pos (by simpa using e8)]; rfl
    · refine ⟨fun _ => ⟨Or.inl rfl, endI fun _ _ => ⟨fun _ => ⟨k.1.1.2.1, k.1.sg, ?_⟩, fun z => absurd rfl z⟩⟩, fun z => absurd ((nI_eq (b := 10) (by omega) (by omega)).mp z) e8⟩
      rw [k.1.1.2.2.1]
      have eq0 := upL_eq (src := src) (nm := nm) (σ := σ) (xs := xs) f e8
      refine useR (w_name k.1 (by omega)) ?_ ?_
      · rintro v1 h1 hI1 _ ⟨c1, σ1, e1, s1, n1, l1, q1⟩
        have kd1 : Pd D p s a base src h0 h1 σ0 σ1 ρ0 ρ := k.tr n1 (by omega) (by omega)
        have u1 := POk.upS n1 k.1 hI u hx
        refine ⟨n1.1.sg, ?_⟩
        rw [n1.1.1.2.2.1]
        have A1 : psA σ1 = psA σ := by unfold psA; rw [q1]
        refine useV (w_need n1.1 "=" (by decide +kernel) (by omega)) ?_ ?_
        · rintro h2 hI2 _ ⟨σ2, e2, n2, l2, q2⟩
          have kd2 : Pd D p s a base src h0 h2 σ0 σ2 ρ0 ρ := kd1.tr n2 (by omega) (by omega)
          have u2 := POk.upS n2 n1.1 hI1 u1 (by rw [A1]; exact hx)
          have A2 : psA σ2 = psA σ := by rw [← A1]; unfold psA; rw [q2]
          have s2 : StR h2 v1 c1 := n2.2.1.2.2.2.2 _ _ s1
          have o2 : psO σ2 = 0 := by rw [← ho]; unfold psO; rw [q2, q1]
          refine useR (w_expr 31 σ2 ρ h2 d n2.1 (by omega) (by omega)) ?_ ?_
          · rintro v3 h3 hI3 _ ⟨x3, σ3, ρ3, e3, hv3, n3, l3⟩
            have kd3 : Pd D p s a base src h0 h3 σ0 σ3 ρ0 ρ3 := kd2.tr n3 (Int.le_refl _) (Int.le_refl _)
            have u3 := POk.upS n3 n2.1 hI2 u2 (by rw [A2]; exact hx)
            have s3 : StR h3 v1 c1 := n3.2.1.2.2.2.2 _ _ s2
            have x3l := expr_lt e3 n2.1.2.2.2.2.2.1
            have len3 : (psA σ2).length ≤ (psA σ3).length := n3.2.2.2.2.1.len
            rw [A2] at len3
            have o3 : psO σ3 = 0 := by rw [← o2]; exact n3.2.2.2.2.1.1
            rw [hv3]
            refine useV0 (w_updSet kd3 hI0 hs0 u3 (by omega) s3 x3l (by omega)) ?_
            rintro h4 hI4 _ ⟨kd4, u4⟩
            have hx4 : ∀ x ∈ xs ++ [x3], x < (psA σ3).length := fun x hm => by
              rcases List.mem_append.mp hm with z | z
              · have := hx x z; omega
              · rw [List.mem_singleton.mp z]; exact x3l
            refine ⟨kd4.1.sg, ?_⟩
            rw [kd4.1.1.2.2.1]
            refine useI (w_takes kd4.1 "," (by decide +kernel) (by omega)) ?_ ?_
            · rintro v5 h5 hI5 _ ⟨b, σ5, e5, rfl, n5, q5, t5, f5⟩
              have ml5 := n5.2.2.2.2.2
              have kd5 : Pd D p s a base src h0 h5 σ0 σ5 ρ0 ρ3 := Pd.tr kd4 n5 (by omega) (by omega)
              have u5 := POk.upS n5 kd4.1 hI4 u4 hx4
              have A5 : psA σ5 = psA σ3 := by unfold psA; rw [q5]
              have o5 : psO σ5 = 0 := by rw [← o3]; unfold psO; rw [q5]
              cases b with
              | true =>
                refine ⟨fun _ => ?_, fun z => absurd z (by decide)⟩
                have eq1 : upL src nm (f + 1) ns xs σ = upL src nm f (ns ++ [c1]) (xs ++ [x3]) σ5 := by rw [eq0, e1, ok_bind, e2, ok_bind, e3, ok_bind, e5, ok_bind]; rfl
                rw [eq1] at hQ hE
                refine w_updateL hI0 hs0 f _ _ σ5 ρ3 h5 d Q kd5 hI5 u5 (by rw [A5]; exact hx4) o5 (by simp; omega) hd ?_ hE
                rintro h6 hI6 ⟨y6, σ6, ρ6, x1, x2, x3, x4⟩
                exact hQ h6 hI6 ⟨y6, σ6, ρ6, x1, x2, x3, by omega⟩
              | false =>
                refine ⟨fun z => absurd rfl z, fun _ => ?_⟩
                have eq1 : upL src nm (f + 1) ns xs σ = upW src nm (ns ++ [c1]) (xs ++ [x3]) σ5 := by rw [eq0, e1, ok_bind, e2, ok_bind, e3, ok_bind, e5, ok_bind]; rfl
                refine useR (w_where kd5.1 o5 hd) ?_ ?_
                · rintro v6 h6 hI6 _ ⟨y6, σ6, ρ6, e6, t6, n6, l6⟩
                  have kd6 : Pd D p s a base src h0 h6 σ0 σ6 ρ0 ρ6 := kd5.tr n6 (Int.le_refl _) (Int.le_refl _)
                  have u6 := POk.upS n6 kd5.1 hI5 u5 (by rw [A5]; exact hx4)
                  refine JW.up (n := 1) (fun _ => t_X37_where ⟨u6.1.2.1, ?_⟩) (by omega)
                  rintro h7 rfl
                  have kd7 : Pd D p s a base src h0 (wfr h6 131 r v6) σ0 σ6 ρ0 ρ6 := POk.sfr kd6 hI6 hI0 hs0 (by rw [u6.1.2.2]; decide) u6.1.1
                  refine endV fun hI7 _ => hQ _ hI7 ⟨_, σ6, ρ6, by rw [eq1]; unfold upW; rw [e6]; rfl, ⟨_, rfl, u6.wh.lo, ?_⟩, kd7, by omega⟩
                  rw [show jfr (wfr h6 131 r v6) 131 r = v6 by simp only [jkd_wfi, jln_wfi, jfi_wfi, jfl_wfi, jfr_wfi, jai_wfi, jal_wfi, jar_wfi, jsz_wfi, jus_wfi, jkd_wfl, jln_wfl, jfi_wfl, jfl_wfl, jfr_wfl, jai_wfl, jal_wfl, jar_wfl, jsz_wfl, jus_wfl, jkd_wfr, jln_wfr, jfi_wfr, jfl_wfr, jfr_wfr, jai_wfr, jal_wfr, jar_wfr, jsz_wfr, jus_wfr, jkd_wai, jln_wai, jfi_wai, jfl_wai, jfr_wai, jai_wai, jal_wai, jar_wai, jsz_wai, jus_wai, jkd_wal, jln_wal, jfi_wal, jfl_wal, jfr_wal, jai_wal, jal_wal, jar_wal, jsz_wal, jus_wal, jkd_war, jln_war, jfi_war, jfl_war, jfr_war, jai_war, jal_war, jar_war, jsz_war, jus_war, jkd_nwo, jln_nwo, jfi_nwo, jfl_nwo, jfr_nwo, jai_nwo, jal_nwo, jar_nwo, jsz_nwo, jus_nwo, jkd_nwa, jln_nwa, jfi_nwa, jfl_nwa, jfr_nwa, jai_nwa, jal_nwa, jar_nwa, jsz_nwa, jus_nwa, jkd_cpa, jln_cpa, jfi_cpa, jfl_cpa, jfr_cpa, jai_cpa, jal_cpa, jar_cpa, jsz_cpa, jus_cpa, and_self, if_true]]
                  exact t6
                · rintro y6 h6 hI6 _ ⟨er, e6, n6⟩
                  exact hE y6 h6 hI6 ⟨er, by rw [eq1]; unfold upW; rw [e6]; rfl, kd5.err n6⟩
            · rintro y5 h5 hI5 _ ⟨er, e5, n5⟩
              exact hE y5 h5 hI5 ⟨er, by rw [eq0, e1, ok_bind, e2, ok_bind, e3, ok_bind, e5]; rfl, Pd.err kd4 n5⟩
          · rintro y3 h3 hI3 _ ⟨er, e3, n3⟩
            exact hE y3 h3 hI3 ⟨er, by rw [eq0, e1, ok_bind, e2, ok_bind, e3]; rfl, kd2.err n3⟩
        · rintro y2 h2 hI2 _ ⟨er, e2, n2⟩
          exact hE y2 h2 hI2 ⟨er, by rw [eq0, e1, ok_bind, e2]; rfl, kd1.err n2⟩
      · rintro y1 h1 hI1 _ ⟨er, e1, n1⟩
        exact hE y1 h1 hI1 ⟨er, by rw [eq0, e1]; rfl, k.err n1⟩
theorem w_update (k : PsR D p s a base src h σ ρ) (ho : psO σ = 0) (hk : tkK (psT σ) ≠ 0) (hd : 352 ≤ d) :
    cX17_update D d p h (pR D h 57 (OP D p s a base src h σ ρ (fun h' ρ' v y => UpdR h' ρ' v y) (upS src σ)) (XE p s src h σ (upS src σ))) := by
  obtain ⟨e, rfl, he⟩ := dsucc hd
  refine JW.inv fun hI => t_X17_update ⟨k.1.2.1, k.sg, ?_⟩
  rw [k.1.2.2.1]
  have sh : s ≤ jsz h := POk.s0 k hI
  refine useV (w_next k hk (by omega)) ?_ ?_
  · rintro h1 hI1 _ ⟨σ1, e1, n1, l1, q1⟩ r2 h2 rfl rfl
    have lt1 : jsz h ≤ jsz h1 := n1.2.1.2.2.2.1.1
    have hI2 := hI1.nO (k := 30) (N := 7) (by decide)
    have n2 := n1.pok.nO (kk := 30) (N := 7) hI1 hI sh rfl
    have p2 : POk D p s a base src h (nwo h1 30 7) σ σ1 ρ ρ (40 * (lp σ1 - lp σ) - 4) (1200 * (lp σ1 - lp σ) - 35) := n2.mono (by omega) (by omega)
    have kd2 : Pd D p s a base src h (nwo h1 30 7) σ σ1 ρ ρ := n2.mono (by omega) (by omega)
    have sk : jkd (nwo h1 30 7) (jsz h1 + 1) = 30 := by simp only [jkd_wfi, jln_wfi, jfi_wfi, jfl_wfi, jfr_wfi, jai_wfi, jal_wfi, jar_wfi, jsz_wfi, jus_wfi, jkd_wfl, jln_wfl, jfi_wfl, jfl_wfl, jfr_wfl, jai_wfl, jal_wfl, jar_wfl, jsz_wfl, jus_wfl, jkd_wfr, jln_wfr, jfi_wfr, jfl_wfr, jfr_wfr, jai_wfr, jal_wfr, jar_wfr, jsz_wfr, jus_wfr, jkd_wai, jln_wai, jfi_wai, jfl_wai, jfr_wai, jai_wai, jal_wai, jar_wai, jsz_wai, jus_wai, jkd_wal, jln_wal, jfi_wal, jfl_wal, jfr_wal, jai_wal, jal_wal, jar_wal, jsz_wal, jus_wal, jkd_war, jln_war, jfi_war, jfl_war, jfr_war, jai_war, jal_war, jar_war, jsz_war, jus_war, jkd_nwo, jln_nwo, jfi_nwo, jfl_nwo, jfr_nwo, jai_nwo, jal_nwo, jar_nwo, jsz_nwo, jus_nwo, jkd_nwa, jln_nwa, jfi_nwa, jfl_nwa, jfr_nwa, jai_nwa, jal_nwa, jar_nwa, jsz_nwa, jus_nwa, jkd_cpa, jln_cpa, jfi_cpa, jfl_cpa, jfr_cpa, jai_cpa, jal_cpa, jar_cpa, jsz_cpa, jus_cpa, if_true]
    have r0 : jsz h1 + 1 ≠ 0 := Nat.succ_ne_zero _
    refine ⟨kd2.1.sg, ?_⟩
    rw [kd2.1.1.2.2.1]
    refine useR (w_name kd2.1 (by omega)) ?_ ?_
    · rintro v3 h3 hI3 _ ⟨nm, σ3, e3, s3, n3, l3, q3⟩
      have p3 : POk D p s a base src h h3 σ σ3 ρ ρ (40 * (lp σ3 - lp σ) - 4) (1200 * (lp σ3 - lp σ) - 35) := (POk.tr p2 n3).mono (by omega) (by omega)
      have sm := POk.obj n3 kd2.1 hI2 (q := jsz h1 + 1) (by rw [sk]; decide)
      refine useV0 (w_updInit p3 hI sh (by rw [sm.kd]; exact sk) (by omega) s3 (by rw [sm.fi]; exact hI1.zi (Nat.lt_succ_self _) 135) (by omega)) ?_
      rintro h4 hI4 _ ⟨n4, u4⟩
      have kd4 : Pd D p s a base src h h4 σ σ3 ρ ρ := n4.mono (by omega) (by omega)
      refine ⟨kd4.1.sg, ?_⟩
      rw [kd4.1.1.2.2.1]
      refine useV (w_needWord kd4.1 "set" (by decide +kernel) (by omega)) ?_ ?_
      · rintro h5 hI5 _ ⟨σ5, e5, n5, l5, q5⟩
        have kd5 : Pd D p s a base src h h5 σ σ5 ρ ρ := kd4.tr n5 (by omega) (by omega)
        have u5 := POk.upS n5 kd4.1 hI4 u4 (fun x hx => by cases hx)
        have eq0 : upS src σ = upL src nm 11 [] [] σ5 := by
          unfold upS
          rw [e1, ok_bind, e3, ok_bind, e5, ok_bind]
        refine ⟨11, w_updateL (h0 := h) hI sh 11 [] [] σ5 ρ h5 e _ kd5 hI5 u5 (fun x hx => by cases hx) (by rw [← ho]; unfold psO; rw [q5, q3, q1]) (by decide) (by omega) ?_ ?_⟩
        · rintro h6 hI6 ⟨y, σ6, ρ6, e6, c6, k6, l6⟩
          exact endR fun _ _ _ => ⟨y, σ6, ρ6, by rw [eq0]; exact e6, c6, by omega, k6, by omega⟩
        · rintro y6 h6 hI6 ⟨er, e6, x6⟩
          exact endX fun _ _ => ⟨er, by rw [eq0]; exact e6, x6⟩
      · rintro y5 h5 hI5 _ ⟨er, e5, n5⟩
        exact endX fun _ _ => ⟨er, by unfold upS; rw [e1, ok_bind, e3, ok_bind, e5]; rfl, kd4.err n5⟩
    · rintro y3 h3 hI3 _ ⟨er, e3, n3⟩
      exact endX fun _ _ => ⟨er, by unfold upS; rw [e1, ok_bind, e3]; rfl, kd2.err n3⟩
  · rintro y1 h1 hI1 _ ⟨er, e1, n1⟩
    exact endX fun _ _ => ⟨er, by unfold upS; rw [e1]; rfl, n1.up⟩
end
