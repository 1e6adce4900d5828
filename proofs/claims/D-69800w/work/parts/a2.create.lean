/-! the parser of the component: CREATE -/
def ColsR (D : JD) (h : JH) (arr : Nat) (l : List Col) : Prop := arr ≠ 0 ∧ jkd h arr = 225 ∧ jln h arr = 10 ∧ l.length ≤ 10 ∧ ∀ i c, l[i]? = some c → ColR D h (jar h arr i) c
section
variable {D : JD} {p s a base : Nat} {src : Str} {h h' h'' h0 : JH} {σ σ' σ'' σ0 : PS} {ρ ρ' ρ'' ρ0 : Nat → Nat} {n m n' m' : Int} {d c r arr : Nat}
theorem POk.colsR {l : List Col} (k : POk D p s a base src h h' σ σ' ρ ρ' n m) (k0 : PsR D p s a base src h σ ρ) (hI : JInv D h) (kc : ColsR D h arr l) : ColsR D h' arr l := by
  have sm := k.obj k0 hI (q := arr) (by rw [kc.2.1]; decide)
  exact ⟨kc.1, by rw [sm.kd]; exact kc.2.1, by rw [sm.ln]; exact kc.2.2.1, kc.2.2.2.1, fun i c hc => by rw [sm.ar]; exact k.colR k0 hI (kc.2.2.2.2 i c hc)⟩
theorem ColsR.put {l : List Col} {v : Nat} {x : Col} (kc : ColsR D h arr l) (hx : ColR D h v x) (hl : l.length < 10) : ColsR D (war h arr l.length v) arr (l ++ [x]) := by
  have ne : ∀ q, jkd h q ≠ 225 → same h (war h arr l.length v) q := fun q z => same_war fun e => z (e ▸ kc.2.1)
  have st : ∀ q w, StR h q w → StR (war h arr l.length v) q w := fun q w z => by
    have z1 := z.2.1
    have z2 := z.2.2.2.2.1
    exact z.of (ne q (by omega)) (ne _ (by omega))
  have cl : ∀ q y, ColR D h q y → ColR D (war h arr l.length v) q y := fun q y ky => ky.of (ne q (by rw [ky.2.1]; decide)) st
  refine ⟨kc.1, kc.2.1, kc.2.2.1, by simp; omega, fun i y hy => ?_⟩
  simp only [jkd_wfi, jln_wfi, jfi_wfi, jfl_wfi, jfr_wfi, jai_wfi, jal_wfi, jar_wfi, jsz_wfi, jus_wfi, jkd_wfl, jln_wfl, jfi_wfl, jfl_wfl, jfr_wfl, jai_wfl, jal_wfl, jar_wfl, jsz_wfl, jus_wfl, jkd_wfr, jln_wfr, jfi_wfr, jfl_wfr, jfr_wfr, jai_wfr, jal_wfr, jar_wfr, jsz_wfr, jus_wfr, jkd_wai, jln_wai, jfi_wai, jfl_wai, jfr_wai, jai_wai, jal_wai, jar_wai, jsz_wai, jus_wai, jkd_wal, jln_wal, jfi_wal, jfl_wal, jfr_wal, jai_wal, jal_wal, jar_wal, jsz_wal, jus_wal, jkd_war, jln_war, jfi_war, jfl_war, jfr_war, jai_war, jal_war, jar_war, jsz_war, jus_war, jkd_nwo, jln_nwo, jfi_nwo, jfl_nwo, jfr_nwo, jai_nwo, jal_nwo, jar_nwo, jsz_nwo, jus_nwo, jkd_nwa, jln_nwa, jfi_nwa, jfl_nwa, jfr_nwa, jai_nwa, jal_nwa, jar_nwa, jsz_nwa, jus_nwa, jkd_cpa, jln_cpa, jfi_cpa, jfl_cpa, jfr_cpa, jai_cpa, jal_cpa, jar_cpa, jsz_cpa, jus_cpa, true_and]
  by_cases e : i = l.length
  · rw [if_pos e]
    rw [e, List.getElem?_append_right (Nat.le_refl _), Nat.sub_self] at hy
    cases hy
    exact cl _ _ hx
  · rw [if_neg e]
    have : i < l.length := by
      have := (List.getElem?_eq_some_iff.mp hy).1
      simp at this
      omega
    rw [List.getElem?_append_left this] at hy
    exact cl _ _ (kc.2.2.2.2 i y hy)
theorem ColsR.old {l : List Col} (kc : ColsR D h arr l) (hI : JInv D h) (f : ∀ q, q ≤ jsz h → same h h' q) : ColsR D h' arr l := by
  have sm := f arr (hI.lt (by rw [kc.2.1]; decide))
  have st : ∀ q w, StR h q w → StR h' q w := fun q w z => z.of (f _ (z.lt hI).1) (f _ (z.lt hI).2)
  exact ⟨kc.1, by rw [sm.kd]; exact kc.2.1, by rw [sm.ln]; exact kc.2.2.1, kc.2.2.2.1, fun i c hc => by rw [sm.ar]; exact (kc.2.2.2.2 i c hc).of (f _ ((kc.2.2.2.2 i c hc).lt hI)) st⟩
/-- CREATE: name, columns -/
def CreR (D : JD) (h : JH) (v : Nat) (y : Stm) : Prop := v ≠ 0 ∧ jkd h v = 17 ∧ StR h (jfr h 96 v) (smT y) ∧ ColsR D h (jfr h 97 v) (smC y) ∧ jfi h 98 v = nI (smC y).length
def crE (nm : Str) (l : List Col) (σ : PS) : Stm := (0, nm, l, [], [], none, selNone, psP σ, psA σ)
def crL (src : Str) (nm : Str) (f : Nat) (l : List Col) (σ : PS) : Except Nat (Stm × PS) := pCols true src f l σ >>= fun q => pNeed true src ")" q.2 >>= fun r => .ok (crE nm q.1 r.2, r.2)
def crS (src : Str) (σ : PS) : Except Nat (Stm × PS) := pNext true src σ >>= fun q => pNeed true src "table" q.2 >>= fun t => pName true src t.2 >>= fun nm => pNeed true src "(" nm.2 >>= fun o => crL src nm.1 11 [] o.2
theorem w_createL {nr : Nat} {nm : Str} (hI0 : JInv D h0) (hs0 : s ≤ jsz h0) (ha : jsz h0 < arr) : ∀ f l σ ρ h d (Q : JO → JH → Prop), Pd D p s a base src h0 h σ0 σ ρ0 ρ → JInv D h → StR h nr nm → ColsR D h arr l → 11 ≤ f + l.length → 14 ≤ d →
    (∀ v h', JInv D h' → (∃ y σ' ρ', crL src nm f l σ = .ok (y, σ') ∧ CreR D h' v y ∧ jsz h0 < v ∧ Pd D p s a base src h0 h' σ0 σ' ρ0 ρ' ∧ lp σ ≤ lp σ') → Q (.inl (some (vR 57 v))) h') → (∀ y h', JInv D h' → XE p s src h0 σ0 (crL src nm f l σ) y h' → Q (.inr y) h') → L_X17_create_41 D d Q f p nr arr (nI l.length) h
  | 0, l, σ, ρ, h, d, Q, k, _, _, kc, hf, _, _, _ => by
    have := kc.2.2.2.1
    exfalso; omega
  | f + 1, l, σ, ρ, h, d, Q, k, hI, hn, kc, hf, hd, hQ, hE => by
    have hl := kc.2.2.2.1
    by_cases e8 : l.length = 10
    · refine ⟨fun z => absurd (by rw [e8]; rfl) z, fun _ => ⟨k.1.1.2.1, useR0 (w_broken k.1 (by omega)) ?_⟩⟩
      rintro y h1 hI1 _ n1
      refine ⟨n1.1.1, hE y h1 hI1 ⟨tkF (psT σ) + 1, ?_, k.err n1⟩⟩
      unfold crL pCols
      rw [if_pos (by simpa using e8)]; rfl
    · have eq0 : crL src nm (f + 1) l σ = (pColumn true src σ >>= fun q => pTake true src "," q.2 >>= fun r => if r.1 = true then crL src nm f (l ++ [q.1]) r.2 else pNeed true src ")" r.2 >>= fun t => .ok (crE nm (l ++ [q.1]) t.2, t.2)) := by
        unfold crL
        conv => lhs; unfold pCols
        rw [if_neg (by simpa using e8)]
        cases pColumn true src σ with
        | error e => rfl
        | ok q =>
          show (pTake true src "," q.2 >>= _) >>= _ = (pTake true src "," q.2 >>= _)
          cases pTake true src "," q.2 with
          | error e => rfl
          | ok r =>
            obtain ⟨b, τ⟩ := r
            cases b <;> rfl
      refine ⟨fun _ => ⟨k.1.1.2.1, useR (w_column k.1 (by omega)) ?_ ?_⟩, fun z => absurd ((nI_eq (b := 10) (by omega) (by omega)).mp z) e8⟩
      · rintro v1 h1 hI1 _ ⟨x, σ1, ρ1, e1, c1, lt1, n1, l1⟩
        have kd1 : Pd D p s a base src h0 h1 σ0 σ1 ρ0 ρ1 := k.tr n1 (Int.le_refl _) (Int.le_refl _)
        have kc1 : ColsR D h1 arr l := POk.colsR n1 k.1 hI kc
        have hn1 : StR h1 nr nm := n1.2.1.2.2.2.2 _ _ hn
        have bsA : jbs D < arr := hI1.2.1 _ (by rw [kc1.2.1]; decide)
        have ltA : arr ≤ jsz h1 := hI1.lt (by rw [kc1.2.1]; decide)
        refine ⟨kc1.1, by rw [kc1.2.2.1]; exact jin_nI (by omega) (by omega), ?_⟩
        rintro h2 rfl
        rw [ixn_nI (by omega)]
        have kd2 : Pd D p s a base src h0 (war h1 arr l.length v1) σ0 σ1 ρ0 ρ1 := POk.sar kd1 hI1 hI0 hs0 (by rw [kc1.2.1]; decide) ha
        have hI2 : JInv D (war h1 arr l.length v1) := hI1.war bsA ltA (Or.inr (by rw [c1.2.1, kc1.2.1]; decide))
        have kc2 := kc1.put c1 (by omega)
        have z1 := hn1.2.1
        have z2 := hn1.2.2.2.2.1
        have kA := kc1.2.1
        have hn2 : StR (war h1 arr l.length v1) nr nm := hn1.of (same_war fun e => by rw [e] at z1; omega) (same_war fun e => by rw [e] at z2; omega)
        refine ⟨kd2.1.sg, ?_⟩
        rw [kd2.1.1.2.2.1]
        refine useI (w_takes kd2.1 "," (by decide +kernel) (by omega)) ?_ ?_
        · rintro v3 h3 hI3 _ ⟨b, σ3, e3, rfl, n3, q3, t3, f3⟩
          have kd3 : Pd D p s a base src h0 h3 σ0 σ3 ρ0 ρ1 := kd2.tr n3 (by have := n3.2.2.2.2.2; omega) (by have := n3.2.2.2.2.2; omega)
          have kc3 := POk.colsR n3 kd2.1 hI2 kc2
          have hn3 : StR h3 nr nm := n3.2.1.2.2.2.2 _ _ hn2
          have ml3 := n3.2.2.2.2.2
          have en : nI l.length + 1 = nI (l ++ [x]).length := by rw [nI_1]; simp
          cases b with
          | true =>
            refine ⟨fun _ => ?_, fun z => absurd z (by decide)⟩
            have eq1 : crL src nm (f + 1) l σ = crL src nm f (l ++ [x]) σ3 := by rw [eq0, e1, ok_bind, e3, ok_bind]; rfl
            rw [eq1] at hQ hE
            rw [en]
            refine w_createL hI0 hs0 ha f (l ++ [x]) σ3 ρ1 h3 d Q kd3 hI3 hn3 kc3 (by simp; omega) hd ?_ hE
            rintro v4 h4 hI4 ⟨y4, σ4, ρ4, x1, x2, x3, x4, x5⟩
            exact hQ v4 h4 hI4 ⟨y4, σ4, ρ4, x1, x2, x3, x4, by omega⟩
          | false =>
            refine ⟨fun z => absurd rfl z, fun _ => ⟨kd3.1.sg, ?_⟩⟩
            rw [kd3.1.1.2.2.1]
            have eq1 : crL src nm (f + 1) l σ = (pNeed true src ")" σ3 >>= fun t => .ok (crE nm (l ++ [x]) t.2, t.2)) := by rw [eq0, e1, ok_bind, e3, ok_bind]; rfl
            refine useV (w_need kd3.1 ")" (by decide +kernel) (by omega)) ?_ ?_
            · rintro h4 hI4 _ ⟨σ4, e4, n4, l4, q4⟩ r5 h5 rfl rfl
              have kc4 := POk.colsR n4 kd3.1 hI3 kc3
              have hn4 : StR h4 nr nm := n4.2.1.2.2.2.2 _ _ hn3
              have kd4 := POk.tr kd3 n4
              have lt4 : jsz h0 ≤ jsz h4 := kd4.2.1.2.2.2.1.1
              have hI5 := hI4.nO (k := 17) (N := 3) (by decide)
              have n5 := kd4.nO (kk := 17) (N := 3) hI4 hI0 hs0 rfl
              have sk : jkd (nwo h4 17 3) (jsz h4 + 1) = 17 := by simp only [jkd_wfi, jln_wfi, jfi_wfi, jfl_wfi, jfr_wfi, jai_wfi, jal_wfi, jar_wfi, jsz_wfi, jus_wfi, jkd_wfl, jln_wfl, jfi_wfl, jfl_wfl, jfr_wfl, jai_wfl, jal_wfl, jar_wfl, jsz_wfl, jus_wfl, jkd_wfr, jln_wfr, jfi_wfr, jfl_wfr, jfr_wfr, jai_wfr, jal_wfr, jar_wfr, jsz_wfr, jus_wfr, jkd_wai, jln_wai, jfi_wai, jfl_wai, jfr_wai, jai_wai, jal_wai, jar_wai, jsz_wai, jus_wai, jkd_wal, jln_wal, jfi_wal, jfl_wal, jfr_wal, jai_wal, jal_wal, jar_wal, jsz_wal, jus_wal, jkd_war, jln_war, jfi_war, jfl_war, jfr_war, jai_war, jal_war, jar_war, jsz_war, jus_war, jkd_nwo, jln_nwo, jfi_nwo, jfl_nwo, jfr_nwo, jai_nwo, jal_nwo, jar_nwo, jsz_nwo, jus_nwo, jkd_nwa, jln_nwa, jfi_nwa, jfl_nwa, jfr_nwa, jai_nwa, jal_nwa, jar_nwa, jsz_nwa, jus_nwa, jkd_cpa, jln_cpa, jfi_cpa, jfl_cpa, jfr_cpa, jai_cpa, jal_cpa, jar_cpa, jsz_cpa, jus_cpa, if_true]
              have r0 : jsz h4 + 1 ≠ 0 := Nat.succ_ne_zero _
              have bs5 : jbs D < jsz h4 + 1 := hI5.2.1 _ (by rw [sk]; decide)
              have sl := hn4.lt hI4
              have y1 := hn4.2.1
              have la4 : arr ≤ jsz h4 := hI4.lt (by rw [kc4.2.1]; decide)
              refine JW.up (n := 2) (fun d => t_X21_init ⟨r0, t_X20_init ⟨r0, endV fun _ _ => ?_⟩⟩) (by omega)
              rintro h6 rfl h7 rfl h8 rfl
              have hI6 : JInv D (wfr (nwo h4 17 3) 96 (jsz h4 + 1) nr) := hI5.wfr bs5 (Nat.le_refl _) (Or.inr (by
                rw [(same_nwo (h := h4) (k := 17) (n := 3) sl.1).kd]
                rcases y1 with y | y <;> rw [y] <;> decide))
              have n6 : POk D p s a base src h0 (wfr (nwo h4 17 3) 96 (jsz h4 + 1) nr) σ0 σ4 ρ0 ρ1 _ _ := n5.sfr hI5 hI0 hs0 (by rw [sk]; decide) (by omega)
              have hI7 : JInv D (wfr (wfr (nwo h4 17 3) 96 (jsz h4 + 1) nr) 97 (jsz h4 + 1) arr) := hI6.wfr bs5 (Nat.le_refl _) (Or.inr (by
                show sbt (jkd (nwo h4 17 3) arr) _ = true
                rw [(same_nwo (h := h4) (k := 17) (n := 3) la4).kd, kc4.2.1]; decide))
              have n7 : POk D p s a base src h0 (wfr (wfr (nwo h4 17 3) 96 (jsz h4 + 1) nr) 97 (jsz h4 + 1) arr) σ0 σ4 ρ0 ρ1 _ _ := n6.sfr hI6 hI0 hs0 (by show skd (jkd (nwo h4 17 3) (jsz h4 + 1)) = true; rw [sk]; decide) (by omega)
              have n8 : POk D p s a base src h0 (wfi (wfr (wfr (nwo h4 17 3) 96 (jsz h4 + 1) nr) 97 (jsz h4 + 1) arr) 98 (jsz h4 + 1) (nI l.length + 1)) σ0 σ4 ρ0 ρ1 _ _ := n7.sfi hI7 hI0 hs0 (by show skd (jkd (nwo h4 17 3) (jsz h4 + 1)) = true; rw [sk]; decide) (by omega)
              have fa : ∀ q, q ≤ jsz h4 → same h4 (wfi (wfr (wfr (nwo h4 17 3) 96 (jsz h4 + 1) nr) 97 (jsz h4 + 1) arr) 98 (jsz h4 + 1) (nI l.length + 1)) q := fun q hq => (((same_nwo hq).tr (same_wfr (by omega))).tr (same_wfr (by omega))).tr (same_wfi (by omega))
              refine endV fun hI8 _ => hQ _ _ hI8 ⟨_, σ4, ρ1, by rw [eq1, e4]; rfl, ⟨r0, sk, ?_, ?_, ?_⟩, by omega, n8.mono (by omega) (by omega), by omega⟩
              · rw [show jfr (wfi (wfr (wfr (nwo h4 17 3) 96 (jsz h4 + 1) nr) 97 (jsz h4 + 1) arr) 98 (jsz h4 + 1) (nI l.length + 1)) 96 (jsz h4 + 1) = nr by simp only [jkd_wfi, jln_wfi, jfi_wfi, jfl_wfi, jfr_wfi, jai_wfi, jal_wfi, jar_wfi, jsz_wfi, jus_wfi, jkd_wfl, jln_wfl, jfi_wfl, jfl_wfl, jfr_wfl, jai_wfl, jal_wfl, jar_wfl, jsz_wfl, jus_wfl, jkd_wfr, jln_wfr, jfi_wfr, jfl_wfr, jfr_wfr, jai_wfr, jal_wfr, jar_wfr, jsz_wfr, jus_wfr, jkd_wai, jln_wai, jfi_wai, jfl_wai, jfr_wai, jai_wai, jal_wai, jar_wai, jsz_wai, jus_wai, jkd_wal, jln_wal, jfi_wal, jfl_wal, jfr_wal, jai_wal, jal_wal, jar_wal, jsz_wal, jus_wal, jkd_war, jln_war, jfi_war, jfl_war, jfr_war, jai_war, jal_war, jar_war, jsz_war, jus_war, jkd_nwo, jln_nwo, jfi_nwo, jfl_nwo, jfr_nwo, jai_nwo, jal_nwo, jar_nwo, jsz_nwo, jus_nwo, jkd_nwa, jln_nwa, jfi_nwa, jfl_nwa, jfr_nwa, jai_nwa, jal_nwa, jar_nwa, jsz_nwa, jus_nwa, jkd_cpa, jln_cpa, jfi_cpa, jfl_cpa, jfr_cpa, jai_cpa, jal_cpa, jar_cpa, jsz_cpa, jus_cpa, Nat.reduceEqDiff, false_and, if_false, and_self, if_true]]
                exact hn4.of (fa _ sl.1) (fa _ sl.2)
              · rw [show jfr (wfi (wfr (wfr (nwo h4 17 3) 96 (jsz h4 + 1) nr) 97 (jsz h4 + 1) arr) 98 (jsz h4 + 1) (nI l.length + 1)) 97 (jsz h4 + 1) = arr by simp only [jkd_wfi, jln_wfi, jfi_wfi, jfl_wfi, jfr_wfi, jai_wfi, jal_wfi, jar_wfi, jsz_wfi, jus_wfi, jkd_wfl, jln_wfl, jfi_wfl, jfl_wfl, jfr_wfl, jai_wfl, jal_wfl, jar_wfl, jsz_wfl, jus_wfl, jkd_wfr, jln_wfr, jfi_wfr, jfl_wfr, jfr_wfr, jai_wfr, jal_wfr, jar_wfr, jsz_wfr, jus_wfr, jkd_wai, jln_wai, jfi_wai, jfl_wai, jfr_wai, jai_wai, jal_wai, jar_wai, jsz_wai, jus_wai, jkd_wal, jln_wal, jfi_wal, jfl_wal, jfr_wal, jai_wal, jal_wal, jar_wal, jsz_wal, jus_wal, jkd_war, jln_war, jfi_war, jfl_war, jfr_war, jai_war, jal_war, jar_war, jsz_war, jus_war, jkd_nwo, jln_nwo, jfi_nwo, jfl_nwo, jfr_nwo, jai_nwo, jal_nwo, jar_nwo, jsz_nwo, jus_nwo, jkd_nwa, jln_nwa, jfi_nwa, jfl_nwa, jfr_nwa, jai_nwa, jal_nwa, jar_nwa, jsz_nwa, jus_nwa, jkd_cpa, jln_cpa, jfi_cpa, jfl_cpa, jfr_cpa, jai_cpa, jal_cpa, jar_cpa, jsz_cpa, jus_cpa, Nat.reduceEqDiff, false_and, if_false, and_self, if_true]]
                exact kc4.old hI4 fa
              · simp only [jkd_wfi, jln_wfi, jfi_wfi, jfl_wfi, jfr_wfi, jai_wfi, jal_wfi, jar_wfi, jsz_wfi, jus_wfi, jkd_wfl, jln_wfl, jfi_wfl, jfl_wfl, jfr_wfl, jai_wfl, jal_wfl, jar_wfl, jsz_wfl, jus_wfl, jkd_wfr, jln_wfr, jfi_wfr, jfl_wfr, jfr_wfr, jai_wfr, jal_wfr, jar_wfr, jsz_wfr, jus_wfr, jkd_wai, jln_wai, jfi_wai, jfl_wai, jfr_wai, jai_wai, jal_wai, jar_wai, jsz_wai, jus_wai, jkd_wal, jln_wal, jfi_wal, jfl_wal, jfr_wal, jai_wal, jal_wal, jar_wal, jsz_wal, jus_wal, jkd_war, jln_war, jfi_war, jfl_war, jfr_war, jai_war, jal_war, jar_war, jsz_war, jus_war, jkd_nwo, jln_nwo, jfi_nwo, jfl_nwo, jfr_nwo, jai_nwo, jal_nwo, jar_nwo, jsz_nwo, jus_nwo, jkd_nwa, jln_nwa, jfi_nwa, jfl_nwa, jfr_nwa, jai_nwa, jal_nwa, jar_nwa, jsz_nwa, jus_nwa, jkd_cpa, jln_cpa, jfi_cpa, jfl_cpa, jfr_cpa, jai_cpa, jal_cpa, jar_cpa, jsz_cpa, jus_cpa, and_self, if_true]
                exact en
            · rintro y4 h4 hI4 _ ⟨er, e4, n4⟩
              exact hE y4 h4 hI4 ⟨er, by rw [eq1, e4]; rfl, kd3.err n4⟩
        · rintro y3 h3 hI3 _ ⟨er, e3, n3⟩
          exact hE y3 h3 hI3 ⟨er, by rw [eq0, e1, ok_bind, e3]; rfl, kd2.err n3⟩
      · rintro y1 h1 hI1 _ ⟨er, e1, n1⟩
        exact hE y1 h1 hI1 ⟨er, by rw [eq0, e1]; rfl, k.err n1⟩
end
