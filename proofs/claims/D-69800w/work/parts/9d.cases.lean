/-! expressions of the component: CASE -/
section
variable {D : JD} {p s a base : Nat} {src : Str} {h h' h'' h0 : JH} {σ σ' σ'' σ0 : PS} {ρ ρ' ρ'' ρ0 : Nat → Nat} {n m n' m' : Int} {d c r : Nat}
def enS (src : Str) (lo k : Nat) (l : List Nat) (σ : PS) : Except Nat (Nat × PS) := pNeed true src "end" σ >>= fun t => .ok (pNode t.2 (4, k, [], none, vNull, l, lo))
def csE (rec : PS → Except Nat (Nat × PS)) (src : Str) (lo : Nat) (l : List Nat) (σ : PS) : Except Nat (Nat × PS) :=
  pTake true src "else" σ >>= fun q => if q.1 = true then rec q.2 >>= fun r => enS src lo 1 (l ++ [r.1]) r.2 else enS src lo 0 l q.2
def csS (rec : PS → Except Nat (Nat × PS)) (src : Str) (lo f : Nat) (l : List Nat) (σ : PS) : Except Nat (Nat × PS) := pWhens rec true src f l σ >>= fun q => csE rec src lo q.1 q.2
theorem pCases_eq {rec : PS → Except Nat (Nat × PS)} {lo : Nat} (hw : pIs σ "when" = true) : pCases rec true src lo σ = csS rec src lo 20 [] σ := by
  unfold pCases csS
  rw [if_neg (by rw [hw]; simp)]
  rfl
theorem w_cases112 {lo arr kk : Nat} {l : List Nat} (Q : JO → JH → Prop) (k : Pd D p s a base src h0 h σ0 σ ρ0 ρ) (hI : JInv D h) (hI0 : JInv D h0) (hs0 : s ≤ jsz h0) (ha : jsz h0 < arr) (ar : ArR h ρ arr l) (u : ArU h arr) (hlt : ∀ x ∈ l, x < (psA σ).length) (hd : 12 ≤ d)
    (hG : ∀ i σ', enS src lo kk l σ = .ok (i, σ') → Gd src σ')
    (hQ : ∀ v h', JInv D h' → (∃ i σ' ρ', enS src lo kk l σ = .ok (i, σ') ∧ v = ρ' i ∧ Pd D p s a base src h0 h' σ0 σ' ρ0 ρ' ∧ lp σ + 1 ≤ lp σ') → Q (.inl (some (vR 55 v))) h') (hE : ∀ y h', JInv D h' → XE p s src h0 σ0 (enS src lo kk l σ) y h' → Q (.inr y) h') :
    W_X17_cases_112 D d Q p arr (nI l.length) h := by
  refine ⟨k.1.1.2.1, k.1.sg, ?_⟩
  rw [k.1.1.2.2.1]
  refine useV (w_needWord k.1 "end" (by decide +kernel) (by omega)) ?_ ?_
  · rintro h1 hI1 _ ⟨σ1, e1, n1, l1, q1⟩ r2 h2 rfl rfl
    have n01 := POk.tr k n1
    obtain ⟨ar1, u1⟩ := n1.arr k.1 hI ar u hlt
    have lt1 : jsz h0 ≤ jsz h1 := n01.2.1.2.2.2.1.1
    have eq1 : enS src lo kk l σ = .ok (pNode σ1 (4, kk, [], none, vNull, l, lo)) := by
      unfold enS
      rw [e1]; rfl
    have g1 := hG _ _ eq1
    have lp1 : lp (pNode σ1 (4, kk, [], none, vNull, l, lo)).2 = lp σ1 := lp_eq rfl
    have n2 := n01.nO (kk := 21) (N := 4) hI1 hI0 hs0 rfl
    have w2 : Raw (nwo h1 21 4) (jsz h1 + 1) 21 := Raw.new hI1
    have hI2 := hI1.nO (k := 21) (N := 4) (by decide)
    refine JW.up (n := 4) (fun d => useV0 (k_casesInit (d := d) w2) ?_) (by omega)
    rintro h3 hI3 _ ⟨mk, e5, e6, e9⟩
    have hk2 : 20 ≤ jkd (nwo h1 21 4) (jsz h1 + 1) ∧ jkd (nwo h1 21 4) (jsz h1 + 1) ≤ 29 := by rw [w2.2.2.1]; decide
    have n3 := n2.mkL hI2 hI0 hs0 w2 (by decide) (by omega) (MkL.of hI2 mk n2.1.2.2.2.1 hk2) fun q => by
      by_cases e : q = jsz h1 + 1
      · rw [e, e5]; exact Or.inr ha
      · exact Or.inl (e9 q e)
    have u2 := u1.nO (kk := 21) (N := 4)
    have ar3 : ArR h3 ρ arr l := (ar1.nO u1).mk u2.1 (by rw [w2.2.2.1]; decide) mk.1
    have nd := nod_cases (k := kk) (lo := lo) (ρ := ρ) mk w2 ar3 e5 e6
    have n4 := n3.node nd g1 (n2.1.rawNe w2)
    exact hQ _ h3 hI3 ⟨(pNode σ1 (4, kk, [], none, vNull, l, lo)).1, (pNode σ1 (4, kk, [], none, vNull, l, lo)).2, _, eq1, (rup_eq _ _ _).symm, n4.mono (by omega) (by omega), by omega⟩
  · rintro y1 h1 hI1 _ ⟨er, e1, n1⟩
    exact hE y1 h1 hI1 ⟨er, by unfold enS; rw [e1]; rfl, k.err n1⟩
theorem w_casesL {N lo arr : Nat} {rec : PS → Except Nat (Nat × PS)} (hr : CXr D p s a base src rec N) (hI0 : JInv D h0) (hs0 : s ≤ jsz h0) (ha : jsz h0 < arr) : ∀ f l σ ρ h d (Q : JO → JH → Prop), Pd D p s a base src h0 h σ0 σ ρ0 ρ → JInv D h → ArR h ρ arr l → ArU h arr → jln h arr = 40 → (∀ x ∈ l, x < (psA σ).length) → 40 ≤ 2 * f + l.length → l.length ≤ 38 → l.length % 2 = 0 → N ≤ psO σ → 11 * (30 - psO σ) + 20 ≤ d →
    (∀ i σ', csS rec src lo f l σ = .ok (i, σ') → Gd src σ') → (∀ σ x σ', rec σ = .ok (x, σ') → Gd src σ → x < (psA σ').length) →
    (∀ v h', JInv D h' → (∃ i σ' ρ', csS rec src lo f l σ = .ok (i, σ') ∧ v = ρ' i ∧ Pd D p s a base src h0 h' σ0 σ' ρ0 ρ' ∧ lp σ + 1 ≤ lp σ') → Q (.inl (some (vR 55 v))) h') → (∀ y h', JInv D h' → XE p s src h0 σ0 (csS rec src lo f l σ) y h' → Q (.inr y) h') → L_X17_cases_26 D d Q f p arr (nI l.length) h
  | 0, l, σ, ρ, h, d, Q, k, _, _, _, _, _, hf, hl, _, _, _, _, _, _, _ => by exfalso; omega
  | f + 1, l, σ, ρ, h, d, Q, k, hI, ar, u, hln, hlt, hf, hl, hev, hN, hd, hG, hR, hQ, hE => by
    refine ⟨k.1.1.2.1, k.1.sg, ?_⟩
    rw [k.1.1.2.2.1]
    refine useI0 (w_isWord k.1 "when" (by decide +kernel) (by omega)) ?_
    rintro v0 h0' _ _ ⟨rfl, rfl⟩
    by_cases iw : pIs σ "when" = true
    · rw [if_pos iw]
      refine ⟨fun z => absurd z (by decide), fun _ => ?_⟩
      by_cases e8 : l.length = 38
      · refine ⟨fun z => absurd (by rw [e8]; rfl) z, fun _ => useR0 (w_broken k.1 (by omega)) ?_⟩
        rintro y h1 hI1 _ n1
        refine ⟨n1.1.1, hE y h1 hI1 ⟨tkF (psT σ) + 1, ?_, k.err n1⟩⟩
        unfold csS pWhens
        rw [if_neg (by rw [iw]; simp), if_pos (by simpa using e8)]; rfl
      · have eq0 : csS rec src lo (f + 1) l σ = (pNext true src σ >>= fun q => rec q.2 >>= fun r => pNeed true src "then" r.2 >>= fun t => rec t.2 >>= fun w => csS rec src lo f (l ++ [r.1, w.1]) w.2) := by
          unfold csS
          conv => lhs; unfold pWhens
          rw [if_neg (by rw [iw]; simp), if_neg (by simpa using e8)]
          cases pNext true src σ with
          | error e => rfl
          | ok q =>
            show (rec q.2 >>= _) >>= _ = (rec q.2 >>= _)
            cases rec q.2 with
            | error e => rfl
            | ok r =>
              show (pNeed true src "then" r.2 >>= _) >>= _ = (pNeed true src "then" r.2 >>= _)
              cases pNeed true src "then" r.2 with
              | error e => rfl
              | ok t =>
                show (rec t.2 >>= _) >>= _ = (rec t.2 >>= _)
                cases rec t.2 with
                | error e => rfl
                | ok w => rfl
        refine ⟨fun _ => ⟨k.1.sg, ?_⟩, fun z => absurd ((nI_eq (b := 38) (by omega) (by omega)).mp z) e8⟩
        rw [k.1.1.2.2.1]
        refine useV (w_next k.1 (is_k iw) (by omega)) ?_ ?_
        · rintro h1 hI1 _ ⟨σ1, e1, n1, l1, q1⟩
          have o1 : psO σ1 = psO σ := n1.2.2.2.2.1.1
          have kd1 : Pd D p s a base src h0 h1 σ0 σ1 ρ0 ρ := k.tr n1 (by omega) (by omega)
          obtain ⟨ar1, u1⟩ := n1.arr k.1 hI ar u hlt
          have A1 : psA σ1 = psA σ := by unfold psA; rw [q1]
          have ln1 : jln h1 arr = 40 := by rw [(n1.2.1.arS hI k.1.1.1 k.1.s15.1 ar.1 u).ln, hln]
          refine useR (hr σ1 ρ h1 d kd1.1 (by omega) (by omega)) ?_ ?_
          · rintro v2 h2 hI2 _ ⟨x, σ2, ρ2, e2, hv2, n2, l2⟩
            have kd2 : Pd D p s a base src h0 h2 σ0 σ2 ρ0 ρ2 := kd1.tr n2 (Int.le_refl _) (Int.le_refl _)
            obtain ⟨ar2, u2⟩ := n2.arr kd1.1 hI1 ar1 u1 (by rw [A1]; exact hlt)
            have ln2 : jln h2 arr = 40 := by rw [(n2.2.1.arS hI1 kd1.1.1.1 kd1.1.s15.1 ar.1 u1).ln, ln1]
            have hx2 := hR σ1 x σ2 e2 kd1.1.2.2.2.2.2.1
            refine ⟨ar.1, by rw [ln2]; exact jin_nI (by omega) (by omega), ?_⟩
            rintro h3 rfl
            rw [ixn_nI (by omega)]
            have kd3 : Pd D p s a base src h0 (war h2 arr l.length v2) σ0 σ2 ρ0 ρ2 := POk.sto (i := l.length) (v := v2) kd2 hI2 hI0 hs0 u2 ha
            have ar3 : ArR (war h2 arr l.length v2) ρ2 arr (l ++ [x]) := ar2.put hv2 (by rw [ln2]; omega)
            have u3 := u2.put (i := l.length) (v := v2)
            have hI3 : JInv D (war h2 arr l.length v2) := inv_sto hI2 u2 n2.1 hx2 hv2
            have lt3 : ∀ z ∈ l ++ [x], z < (psA σ2).length := fun z hz => by
              rcases List.mem_append.mp hz with e | e
              · exact Nat.lt_of_lt_of_le (by rw [A1]; exact hlt z e) n2.2.2.2.2.1.len
              · rw [List.mem_singleton.mp e]; exact hx2
            refine ⟨kd3.1.sg, ?_⟩
            rw [kd3.1.1.2.2.1]
            refine useV (w_needWord kd3.1 "then" (by decide +kernel) (by omega)) ?_ ?_
            · rintro h4 hI4 _ ⟨σ4, e4, n4, l4, q4⟩
              have kd4 : Pd D p s a base src h0 h4 σ0 σ4 ρ0 ρ2 := kd3.tr n4 (by omega) (by omega)
              obtain ⟨ar4, u4⟩ := n4.arr kd3.1 hI3 ar3 u3 lt3
              have A4 : psA σ4 = psA σ2 := by unfold psA; rw [q4]
              have ln4 : jln h4 arr = 40 := by rw [(n4.2.1.arS hI3 kd3.1.1.1 kd3.1.s15.1 ar.1 u3).ln]; exact ln2
              have o2 : psO σ2 = psO σ1 := n2.2.2.2.2.1.1
              have o4 : psO σ4 = psO σ2 := n4.2.2.2.2.1.1
              refine useR (hr σ4 ρ2 h4 d kd4.1 (by omega) (by omega)) ?_ ?_
              · rintro v5 h5 hI5 _ ⟨y, σ5, ρ5, e5, hv5, n5, l5⟩
                have kd5 : Pd D p s a base src h0 h5 σ0 σ5 ρ0 ρ5 := kd4.tr n5 (Int.le_refl _) (Int.le_refl _)
                obtain ⟨ar5, u5⟩ := n5.arr kd4.1 hI4 ar4 u4 (by rw [A4]; exact lt3)
                have ln5 : jln h5 arr = 40 := by rw [(n5.2.1.arS hI4 kd4.1.1.1 kd4.1.s15.1 ar.1 u4).ln, ln4]
                have hx5 := hR σ4 y σ5 e5 kd4.1.2.2.2.2.2.1
                rw [nI_1]
                refine ⟨by rw [ln5]; exact jin_nI (by omega) (by omega), ?_⟩
                rintro h6 rfl
                rw [ixn_nI (by omega)]
                have kd6 : Pd D p s a base src h0 (war h5 arr (l.length + 1) v5) σ0 σ5 ρ0 ρ5 := POk.sto (i := l.length + 1) (v := v5) kd5 hI5 hI0 hs0 u5 ha
                have ar6 : ArR (war h5 arr (l.length + 1) v5) ρ5 arr (l ++ [x, y]) := by
                  have := ar5.put (x := y) (v := v5) hv5 (by rw [ln5]; simp; omega)
                  simpa using this
                have hI6 : JInv D (war h5 arr (l.length + 1) v5) := inv_sto hI5 u5 n5.1 hx5 hv5
                have o5 : psO σ5 = psO σ4 := n5.2.2.2.2.1.1
                have lt6 : ∀ z ∈ l ++ [x, y], z < (psA σ5).length := fun z hz => by
                  have e : l ++ [x, y] = (l ++ [x]) ++ [y] := by simp
                  rw [e] at hz
                  rcases List.mem_append.mp hz with w | w
                  · exact Nat.lt_of_lt_of_le (by rw [A4]; exact lt3 z w) n5.2.2.2.2.1.len
                  · rw [List.mem_singleton.mp w]; exact hx5
                have := w_casesL hr hI0 hs0 ha f (l ++ [x, y]) σ5 ρ5 _ d Q kd6 hI6 ar6 (u5.put (i := l.length + 1) (v := v5)) ln5 lt6 (by simp; omega) (by simp; omega) (by simp; omega) (by omega) (by omega) (fun i σ' e => hG i σ' (by rw [eq0, e1, ok_bind, e2, ok_bind, e4, ok_bind, e5, ok_bind]; exact e)) hR ?_ ?_
                · rw [show (2 : Int32) = nI 2 from rfl, nI_add]
                  rwa [List.length_append] at this
                · rintro v7 h7 hI7 ⟨i, σ7, ρ7, e7, hv7, n7, l7⟩
                  exact hQ v7 h7 hI7 ⟨i, σ7, ρ7, by rw [eq0, e1, ok_bind, e2, ok_bind, e4, ok_bind, e5, ok_bind]; exact e7, hv7, n7, by omega⟩
                · rintro y7 h7 hI7 ⟨er, e7, n7⟩
                  exact hE y7 h7 hI7 ⟨er, by rw [eq0, e1, ok_bind, e2, ok_bind, e4, ok_bind, e5, ok_bind]; exact e7, n7⟩
              · rintro y5 h5 hI5 _ ⟨er, e5, n5⟩
                exact hE y5 h5 hI5 ⟨er, by rw [eq0, e1, ok_bind, e2, ok_bind, e4, ok_bind, e5]; rfl, kd4.err n5⟩
            · rintro y4 h4 hI4 _ ⟨er, e4, n4⟩
              exact hE y4 h4 hI4 ⟨er, by rw [eq0, e1, ok_bind, e2, ok_bind, e4]; rfl, kd3.err n4⟩
          · rintro y2 h2 hI2 _ ⟨er, e2, n2⟩
            exact hE y2 h2 hI2 ⟨er, by rw [eq0, e1, ok_bind, e2]; rfl, kd1.err n2⟩
        · rintro y1 h1 hI1 _ ⟨er, e1, n1⟩
          exact hE y1 h1 hI1 ⟨er, by rw [eq0, e1]; rfl, k.err n1⟩
    · rw [if_neg iw]
      have eq0 : csS rec src lo (f + 1) l σ = csE rec src lo l σ := by
        unfold csS
        conv => lhs; unfold pWhens
        rw [if_pos (by rw [Bool.eq_false_iff.mpr iw]; rfl)]; rfl
      rw [eq0] at hG hQ hE
      refine ⟨fun _ => ⟨k.1.sg, ?_⟩, fun z => absurd rfl z⟩
      rw [k.1.1.2.2.1]
      refine useI (w_takesWord k.1 "else" (by decide +kernel) (by omega)) ?_ ?_
      · rintro v1 h1 hI1 _ ⟨b, σ1, e1, rfl, n1, q1, t1, f1⟩
        have l1 := n1.2.2.2.2.2
        have kd1 : Pd D p s a base src h0 h1 σ0 σ1 ρ0 ρ := k.tr n1 (by omega) (by omega)
        obtain ⟨ar1, u1⟩ := n1.arr k.1 hI ar u hlt
        have A1 : psA σ1 = psA σ := by unfold psA; rw [q1]
        have ln1 : jln h1 arr = 40 := by rw [(n1.2.1.arS hI k.1.1.1 k.1.s15.1 ar.1 u).ln, hln]
        have o1 : psO σ1 = psO σ := n1.2.2.2.2.1.1
        cases b with
        | false =>
          refine ⟨fun _ => ?_, fun z => absurd rfl z⟩
          have eq1 : csE rec src lo l σ = enS src lo 0 l σ1 := by unfold csE; rw [e1]; rfl
          rw [eq1] at hG hQ hE
          exact w_cases112 (lo := lo) (kk := 0) Q kd1 hI1 hI0 hs0 ha ar1 u1 (by rw [A1]; exact hlt) (by omega) hG (fun v h' hI' ⟨i, σ', ρ', x1, x2, x3, x4⟩ => hQ v h' hI' ⟨i, σ', ρ', x1, x2, x3, by omega⟩) hE
        | true =>
          refine ⟨fun z => absurd z (by decide), fun _ => ?_⟩
          have eq1 : csE rec src lo l σ = (rec σ1 >>= fun r => enS src lo 1 (l ++ [r.1]) r.2) := by unfold csE; rw [e1]; rfl
          rw [eq1] at hG hQ hE
          refine useR (hr σ1 ρ h1 d kd1.1 (by omega) (by omega)) ?_ ?_
          · rintro v2 h2 hI2 _ ⟨x, σ2, ρ2, e2, hv2, n2, l2⟩
            rw [e2, ok_bind] at hG hQ hE
            have kd2 : Pd D p s a base src h0 h2 σ0 σ2 ρ0 ρ2 := kd1.tr n2 (Int.le_refl _) (Int.le_refl _)
            obtain ⟨ar2, u2⟩ := n2.arr kd1.1 hI1 ar1 u1 (by rw [A1]; exact hlt)
            have ln2 : jln h2 arr = 40 := by rw [(n2.2.1.arS hI1 kd1.1.1.1 kd1.1.s15.1 ar.1 u1).ln, ln1]
            have hx2 := hR σ1 x σ2 e2 kd1.1.2.2.2.2.2.1
            refine ⟨ar.1, by rw [ln2]; exact jin_nI (by omega) (by omega), ?_⟩
            rintro h3 rfl
            rw [ixn_nI (by omega), nI_1]
            have kd3 : Pd D p s a base src h0 (war h2 arr l.length v2) σ0 σ2 ρ0 ρ2 := POk.sto (i := l.length) (v := v2) kd2 hI2 hI0 hs0 u2 ha
            have ar3 : ArR (war h2 arr l.length v2) ρ2 arr (l ++ [x]) := ar2.put hv2 (by rw [ln2]; omega)
            have hI3 : JInv D (war h2 arr l.length v2) := inv_sto hI2 u2 n2.1 hx2 hv2
            have lt3 : ∀ z ∈ l ++ [x], z < (psA σ2).length := fun z hz => by
              rcases List.mem_append.mp hz with e | e
              · exact Nat.lt_of_lt_of_le (by rw [A1]; exact hlt z e) n2.2.2.2.2.1.len
              · rw [List.mem_singleton.mp e]; exact hx2
            have := w_cases112 (d := d) (lo := lo) (kk := 1) Q kd3 hI3 hI0 hs0 ha ar3 (u2.put (i := l.length) (v := v2)) lt3 (by omega) hG (fun v h' hI' ⟨i, σ', ρ', x1, x2, x3, x4⟩ => hQ v h' hI' ⟨i, σ', ρ', x1, x2, x3, by omega⟩) hE
            rwa [List.length_append] at this
          · rintro y2 h2 hI2 _ ⟨er, e2, n2⟩
            exact hE y2 h2 hI2 ⟨er, by rw [e2]; rfl, kd1.err n2⟩
      · rintro y1 h1 hI1 _ ⟨er, e1, n1⟩
        exact hE y1 h1 hI1 ⟨er, by unfold csE; rw [e1]; rfl, k.err n1⟩
theorem w_cases {N lo : Nat} {rec : PS → Except Nat (Nat × PS)} (hx : ∀ σ, Xz src (3 * (30 - psO σ)) σ (rec σ)) (hr : CXr D p s a base src rec N) (kd : Pd D p s a base src h0 h σ0 σ ρ0 ρ) (sl : Sp h0 h (40 * (lp σ - lp σ0) - 5) (1200 * (lp σ - lp σ0) - 100)) (hI0 : JInv D h0) (hs0 : s ≤ jsz h0) (hN : N ≤ psO σ) (hd : 11 * (30 - psO σ) + 21 ≤ d) (hG : ∀ i σ', pCases rec true src lo σ = .ok (i, σ') → Gd src σ') :
    cX17_cases D d p h (pR D h 55 (fun v h' => ∃ i σ' ρ', pCases rec true src lo σ = .ok (i, σ') ∧ v = ρ' i ∧ Pd D p s a base src h0 h' σ0 σ' ρ0 ρ' ∧ lp σ + 1 ≤ lp σ') (XE p s src h0 σ0 (pCases rec true src lo σ))) := by
  obtain ⟨e, rfl, he⟩ := dsucc hd
  refine JW.inv fun hI => t_X17_cases ?_
  rintro r1 h1 rfl rfl
  have kd1 : Pd D p s a base src h0 (nwa h 222 40) σ0 σ ρ0 ρ := by
    have ok := POk.nA8 (N := 40) kd hI hI0 hs0
    exact ⟨ok.1, ok.2.1, ok.2.2.1, (sl.tr (Sp.nA (by decide))).mono (by omega) (by omega), ok.2.2.2.2⟩
  have hI1 : JInv D (nwa h 222 40) := hI.nA (by decide)
  have u1 : ArU (nwa h 222 40) (jsz h + 1) := ArU.new hI
  have ar1 : ArR (nwa h 222 40) ρ (jsz h + 1) [] := ArR.new (by decide)
  have ln1 : jln (nwa h 222 40) (jsz h + 1) = 40 := by simp only [jkd_wfi, jln_wfi, jfi_wfi, jfl_wfi, jfr_wfi, jai_wfi, jal_wfi, jar_wfi, jsz_wfi, jus_wfi, jkd_wfl, jln_wfl, jfi_wfl, jfl_wfl, jfr_wfl, jai_wfl, jal_wfl, jar_wfl, jsz_wfl, jus_wfl, jkd_wfr, jln_wfr, jfi_wfr, jfl_wfr, jfr_wfr, jai_wfr, jal_wfr, jar_wfr, jsz_wfr, jus_wfr, jkd_wai, jln_wai, jfi_wai, jfl_wai, jfr_wai, jai_wai, jal_wai, jar_wai, jsz_wai, jus_wai, jkd_wal, jln_wal, jfi_wal, jfl_wal, jfr_wal, jai_wal, jal_wal, jar_wal, jsz_wal, jus_wal, jkd_war, jln_war, jfi_war, jfl_war, jfr_war, jai_war, jal_war, jar_war, jsz_war, jus_war, jkd_nwo, jln_nwo, jfi_nwo, jfl_nwo, jfr_nwo, jai_nwo, jal_nwo, jar_nwo, jsz_nwo, jus_nwo, jkd_nwa, jln_nwa, jfi_nwa, jfl_nwa, jfr_nwa, jai_nwa, jal_nwa, jar_nwa, jsz_nwa, jus_nwa, jkd_cpa, jln_cpa, jfi_cpa, jfl_cpa, jfr_cpa, jai_cpa, jal_cpa, jar_cpa, jsz_cpa, jus_cpa, if_true]
  have lt0 : jsz h0 ≤ jsz h := kd.2.1.2.2.2.1.1
  refine ⟨kd1.1.1.2.1, kd1.1.sg, ?_⟩
  rw [kd1.1.1.2.2.1]
  refine useI0 (w_isWord kd1.1 "when" (by decide +kernel) (by omega)) ?_
  rintro v2 h2 _ _ ⟨rfl, rfl⟩
  by_cases iw : pIs σ "when" = true
  · rw [if_pos iw]
    rw [pCases_eq iw] at hG ⊢
    refine ⟨fun _ => ⟨20, ?_⟩, fun z => absurd z (by decide)⟩
    refine w_casesL hr hI0 hs0 (arr := jsz h + 1) (by omega) 20 [] σ ρ _ e _ kd1 hI1 ar1 u1 ln1 (fun x hx => by cases hx) (by decide) (by decide) (by decide) (by omega) (by omega) hG (xr_lt hx) ?_ ?_
    · rintro v4 h4 hI4 ⟨i, σ4, ρ4, e4, hv4, n4, l4⟩
      exact endR fun _ _ _ => ⟨i, σ4, ρ4, e4, hv4, n4, by omega⟩
    · rintro y4 h4 hI4 x
      exact endX fun _ _ => x
  · rw [if_neg iw]
    refine ⟨fun z => absurd rfl z, fun _ => useR0 (w_broken kd1.1 (by omega)) ?_⟩
    rintro y3 h3 hI3 _ n3
    refine ⟨n3.1.1, endX fun _ _ => ⟨tkF (psT σ) + 1, ?_, kd1.err n3⟩⟩
    unfold pCases
    rw [if_pos (by rw [Bool.eq_false_iff.mpr iw]; rfl)]; rfl
end
