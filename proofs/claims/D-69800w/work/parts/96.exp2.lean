/-! expressions of the component: loops of operators -/
theorem cst0 {D : JD} {h : JH} (hI : JInv D h) {j : Nat} (hj : (Nat.ble j 372 && jenm j) = true) : jcs D j ≠ 0 := by
  simp only [Bool.and_eq_true, Nat.ble_eq] at hj
  exact (hI.2.2.2.2.2.2.2.2.2 j (by omega) hj.2).1
section
variable {D : JD} {p s a base : Nat} {src : Str} {h h' h'' h0 : JH} {σ σ' σ'' σ0 : PS} {ρ ρ' ρ'' ρ0 : Nat → Nat} {n m n' m' : Int} {d c r : Nat}
/-- what minus gives -/
def CM (D : JD) (p s a base : Nat) (src : Str) (rec : PS → Except Nat (Nat × PS)) (N : Nat) : Prop := ∀ σ ρ h d, PsR D p s a base src h σ ρ → N ≤ psO σ → 11 * (30 - psO σ) + 24 ≤ d →
  cX17_minus D d p h (pR D h 55 (XP D p s a base src h σ ρ (pMinus rec true src 31 σ)) (XE p s src h σ (pMinus rec true src 31 σ)))
theorem w_prodsL {rec : PS → Except Nat (Nat × PS)} {N : Nat} (hx : ∀ σ, Xz src (3 * (30 - psO σ)) σ (rec σ)) (hp : CM D p s a base src rec N) (lo N0 : Nat) : ∀ f σ ρ h x v1 d (Q : JO → JH → Prop), PsR D p s a base src h σ ρ → JInv D h → Xq N0 (3 * (30 - psO σ) + 1) lo σ x → v1 = ρ x → 302 ≤ f + psN σ → N ≤ psO σ → 11 * (30 - psO σ) + 24 ≤ d →
    (∀ v h', JInv D h' → XL D p s a base src h σ ρ (pProducts rec true src lo f x σ) v h' → Q (.inl (some (vR 55 v))) h') → (∀ y h', JInv D h' → XE p s src h σ (pProducts rec true src lo f x σ) y h' → Q (.inr y) h') → L_X17_products_5 D d Q f p v1 h
  | 0, σ, ρ, h, x, v1, d, Q, k, _, _, _, hf, _, _, _, _ => by
    have := k.2.2.2.2.2.2.1
    exfalso; omega
  | f + 1, σ, ρ, h, x, v1, d, Q, k, hI, hxq, hv, hf, hN, hd, hQ, hE => by
    have g := k.2.2.2.2.2.1
    have go : ∀ (kk cst : Nat) (h1 : JH), h1 = h → (pIs σ "*" || (pIs σ "/" || pIs σ "%")) = true → (if pIs σ "*" = true then 2 else if pIs σ "/" = true then 3 else 4) = kk → cst = jcs D (opN (14, kk, [], none, vNull, [], 0)) → cX17_operator D d p h1 (pV D h1 (fun h_3 => ∀ (r_6 : Nat) (h_7 : JH), r_6 = jsz h_3 + 1 → h_7 = nwo h_3 27 5 → (cX17_minus D d p h_7 (pR D h_7 55 (fun v_12 h_10 => cX33_init D d r_6 cst v1 v_12 h_10 (pV D h_10 (fun h_13 => L_X17_products_5 D d Q f p r_6 h_13) (jth Q))) (jth Q)))) (jth Q)) := by
      rintro kk cst h1 rfl hi hkk hcst
      have eq0 : pProducts rec true src lo (f + 1) x σ = (pOper true src σ >>= fun q => pMinus rec true src 31 q.2 >>= fun q => pProducts rec true src lo f (pNode q.2 (14, kk, [], none, vNull, [x, q.1], lo)).1 (pNode q.2 (14, kk, [], none, vNull, [x, q.1], lo)).2) := by
        conv => lhs; unfold pProducts
        rw [if_pos hi, ← hkk]
      refine useV (w_operator k (fun e => ?_) (by omega)) ?_ ?_
      · have hk0 : ∀ s, pIs σ s = false := fun s => by unfold pIs; rw [e]; rfl
        simp only [hk0, Bool.or_self, Bool.false_eq_true] at hi
      · rintro h3 hI3 _ ⟨σ3, e3, n3, l3, q3, qa⟩ r4 h4 rfl rfl
        have s0 := POk.s0 k hI
        have n4 := n3.pok.nO (kk := 27) (N := 5) hI3 hI s0 rfl
        have o3 : psO σ3 = psO σ := n3.2.2.2.2.1.1
        refine JW.inv fun hI4 => ?_
        have w4 : Raw (nwo h3 27 5) (jsz h3 + 1) 27 := Raw.new hI3
        refine useR (hp σ3 ρ _ d n4.1 (by omega) (by omega)) ?_ ?_
        · rintro v5 h5 hI5 _ ⟨y, σ5, ρ5, e5, rfl, n5, l5⟩
          have w5 := n5.raw n4.1 hI4 w4 (by decide)
          have n25 := n4.tr n5
          have lt3 : jsz h1 ≤ jsz h3 := n3.2.1.2.2.2.1.1
          have g3 := n3.1.2.2.2.2.2.1
          have xs := x_minus hx 31 σ3 g3 _ e5
          rw [o3] at xs
          dsimp only at xs
          have xp := x_pair (o := 14) (k := kk) g hxq g3 n3.2.2.2.2.1 q3 xs.1 xs.2.1 xs.2.2 (by subst hkk; exact Or.inr (Or.inr (Or.inr (Or.inr (Or.inr (Or.inr (Or.inr (Or.inr (Or.inr (Or.inr (Or.inr (Or.inr ⟨rfl, by show (if pIs σ "*" = true then 2 else if pIs σ "/" = true then 3 else 4) ≤ 5; split; omega; split <;> omega, rfl⟩))))))))))))
          have hxl : x < (psA σ).length := by rw [← hxq.1]; omega
          refine useV0 (w_pair n25 hI5 hI s0 w5 (by omega) (by omega) xp.1 (hv.trans (n25.2.2.1 x hxl).symm) rfl hcst (by omega)) ?_
          rintro h6 hI6 _ n6
          have o6 : psO (pNode σ5 (14, kk, [], none, vNull, [x, y], lo)).2 = psO σ := n6.2.2.2.2.1.1
          have N6 : psN σ + 1 ≤ psN (pNode σ5 (14, kk, [], none, vNull, [x, y], lo)).2 := by
            have : psN σ5 = psN (pNode σ5 (14, kk, [], none, vNull, [x, y], lo)).2 := rfl
            have := n5.2.2.2.2.1.2.1
            omega
          have lp6 : lp (pNode σ5 (14, kk, [], none, vNull, [x, y], lo)).2 = lp σ5 := lp_eq rfl
          refine w_prodsL hx hp lo N0 f _ _ h6 _ _ d Q n6.1 hI6 (by rw [o6]; exact xp.2.2) (rup_eq _ _ _).symm (by omega) (by omega) (by omega) ?_ ?_
          · rintro v7 h7 hI7 ⟨i, σ7, ρ7, e7, hv7, n7⟩
            exact hQ v7 h7 hI7 ⟨i, σ7, ρ7, by rw [eq0, e3, ok_bind, e5, ok_bind]; exact e7, hv7, (n6.tr n7).mono (by omega) (by omega)⟩
          · rintro y7 h7 hI7 ⟨er, e7, n7⟩
            exact hE y7 h7 hI7 ⟨er, by rw [eq0, e3, ok_bind, e5, ok_bind]; exact e7, n6.err (by omega) (by omega) n7⟩
        · rintro y5 h5 hI5 _ ⟨er, e5, n5⟩
          exact hE y5 h5 hI5 ⟨er, by rw [eq0, e3, ok_bind, e5]; rfl, n4.err (by omega) (by omega) n5⟩
      · rintro y3 h3 hI3 _ ⟨er, e3, n3⟩
        exact hE y3 h3 hI3 ⟨er, by rw [eq0, e3]; rfl, n3.up⟩
    have stop : ¬ ((pIs σ "*" || (pIs σ "/" || pIs σ "%")) = true) → XL D p s a base src h σ ρ (pProducts rec true src lo (f + 1) x σ) v1 h := by
      intro hi
      refine ⟨x, σ, ρ, ?_, hv, (POk.rf k).mono (by omega) (by omega)⟩
      unfold pProducts
      rw [if_neg hi]
    refine ⟨k.1.2.1, k.sg, ?_⟩
    rw [k.1.2.2.1]
    refine useI0 (w_is k "*" (by decide +kernel) (by omega)) ?_
    rintro v h1 _ _ ⟨rfl, rfl⟩
    by_cases ia : pIs σ "*" = true
    · rw [if_pos ia]
      exact ⟨fun z => absurd z (by decide), fun _ => ⟨fun _ => ⟨k.1.2.1, go 2 _ _ rfl (by rw [ia]; rfl) (by rw [if_pos ia]) rfl⟩, fun z => absurd z (cst0 hI (by decide))⟩⟩
    · rw [if_neg ia]
      refine ⟨fun _ => ⟨k.sg, ?_⟩, fun z => absurd rfl z⟩
      rw [k.1.2.2.1]
      refine useI0 (w_is k "/" (by decide +kernel) (by omega)) ?_
      rintro v h2 _ _ ⟨rfl, rfl⟩
      by_cases ib : pIs σ "/" = true
      · rw [if_pos ib]
        exact ⟨fun z => absurd z (by decide), fun _ => ⟨fun _ => ⟨k.1.2.1, go 3 _ _ rfl (by rw [ib]; simp) (by rw [if_neg ia, if_pos ib]) rfl⟩, fun z => absurd z (cst0 hI (by decide))⟩⟩
      · rw [if_neg ib]
        refine ⟨fun _ => ⟨k.sg, ?_⟩, fun z => absurd rfl z⟩
        rw [k.1.2.2.1]
        refine useI0 (w_is k "%" (by decide +kernel) (by omega)) ?_
        rintro v h3 _ _ ⟨rfl, rfl⟩
        by_cases ic : pIs σ "%" = true
        · rw [if_pos ic]
          exact ⟨fun z => absurd z (by decide), fun _ => ⟨fun _ => ⟨k.1.2.1, go 4 _ _ rfl (by rw [ic]; simp) (by rw [if_neg ia, if_neg ib]) rfl⟩, fun z => absurd z (cst0 hI (by decide))⟩⟩
        · rw [if_neg ic]
          exact ⟨fun _ => ⟨fun z => absurd rfl z, fun _ => hQ v1 _ hI (stop (by simp [Bool.eq_false_iff.mpr ia, Bool.eq_false_iff.mpr ib, Bool.eq_false_iff.mpr ic]))⟩, fun z => absurd rfl z⟩
theorem w_prods {rec : PS → Except Nat (Nat × PS)} {N : Nat} (hx : ∀ σ, Xz src (3 * (30 - psO σ)) σ (rec σ)) (hp : CM D p s a base src rec N) (σ : PS) (ρ : Nat → Nat) (h : JH) (d : Nat) (k : PsR D p s a base src h σ ρ) (hN : N ≤ psO σ) (hd : 11 * (30 - psO σ) + 25 ≤ d) :
    cX17_products D d p h (pR D h 55 (XP D p s a base src h σ ρ (pTerm rec true src σ)) (XE p s src h σ (pTerm rec true src σ))) := by
  obtain ⟨e, rfl, he⟩ := dsucc hd
  refine t_X17_products ⟨k.1.2.1, useR (hp σ ρ h e k hN (by omega)) ?_ ?_⟩
  · rintro v1 h1 hI1 _ ⟨x, σ1, ρ1, e1, hv1, n1, l1⟩
    have o1 : psO σ1 = psO σ := n1.2.2.2.2.1.1
    have xs := x_minus hx 31 σ k.2.2.2.2.2.1 _ e1
    refine ⟨302, w_prodsL hx hp (psA σ).length (psN σ) 302 σ1 ρ1 h1 x v1 e _ n1.1 hI1 (by rw [o1]; exact xs.2.2) hv1 (by omega) (by omega) (by omega) ?_ ?_⟩
    · rintro v2 h2 hI2 ⟨i, σ2, ρ2, e2, hv2, n2⟩
      have := n2.2.2.2.2.2
      exact endR fun _ _ _ => ⟨i, σ2, ρ2, by unfold pTerm; rw [e1]; exact e2, hv2, (n1.tr n2).mono (by omega) (by omega), by omega⟩
    · rintro y2 h2 hI2 ⟨er, e2, n2⟩
      exact endX fun _ _ => ⟨er, by unfold pTerm; rw [e1]; exact e2, n1.err (by omega) (by omega) n2⟩
  · rintro y1 h1 hI1 _ ⟨er, e1, n1⟩
    exact endX fun _ _ => ⟨er, by unfold pTerm; rw [e1]; rfl, n1⟩
/-- what products gives -/
def CT (D : JD) (p s a base : Nat) (src : Str) (rec : PS → Except Nat (Nat × PS)) (N : Nat) : Prop := ∀ σ ρ h d, PsR D p s a base src h σ ρ → N ≤ psO σ → 11 * (30 - psO σ) + 25 ≤ d →
  cX17_products D d p h (pR D h 55 (XP D p s a base src h σ ρ (pTerm rec true src σ)) (XE p s src h σ (pTerm rec true src σ)))
theorem w_sumsXL {rec : PS → Except Nat (Nat × PS)} {N : Nat} (hx : ∀ σ, Xz src (3 * (30 - psO σ)) σ (rec σ)) (hp : CT D p s a base src rec N) (lo N0 : Nat) : ∀ f σ ρ h x v1 d (Q : JO → JH → Prop), PsR D p s a base src h σ ρ → JInv D h → Xq N0 (3 * (30 - psO σ) + 1) lo σ x → v1 = ρ x → 302 ≤ f + psN σ → N ≤ psO σ → 11 * (30 - psO σ) + 25 ≤ d →
    (∀ v h', JInv D h' → XL D p s a base src h σ ρ (pSumsL rec true src lo f x σ) v h' → Q (.inl (some (vR 55 v))) h') → (∀ y h', JInv D h' → XE p s src h σ (pSumsL rec true src lo f x σ) y h' → Q (.inr y) h') → L_X17_sums_5 D d Q f p v1 h
  | 0, σ, ρ, h, x, v1, d, Q, k, _, _, _, hf, _, _, _, _ => by
    have := k.2.2.2.2.2.2.1
    exfalso; omega
  | f + 1, σ, ρ, h, x, v1, d, Q, k, hI, hxq, hv, hf, hN, hd, hQ, hE => by
    have g := k.2.2.2.2.2.1
    have go : ∀ (kk cst : Nat) (h1 : JH), h1 = h → (pIs σ "+" || (pIs σ "-" || pIs σ "||")) = true → (if pIs σ "+" = true then 0 else if pIs σ "-" = true then 1 else 5) = kk → cst = jcs D (opN (14, kk, [], none, vNull, [], 0)) → cX17_operator D d p h1 (pV D h1 (fun h_3 => ∀ (r_6 : Nat) (h_7 : JH), r_6 = jsz h_3 + 1 → h_7 = nwo h_3 27 5 → (cX17_products D d p h_7 (pR D h_7 55 (fun v_12 h_10 => cX33_init D d r_6 cst v1 v_12 h_10 (pV D h_10 (fun h_13 => L_X17_sums_5 D d Q f p r_6 h_13) (jth Q))) (jth Q)))) (jth Q)) := by
      rintro kk cst h1 rfl hi hkk hcst
      have eq0 : pSumsL rec true src lo (f + 1) x σ = (pOper true src σ >>= fun q => pTerm rec true src q.2 >>= fun q => pSumsL rec true src lo f (pNode q.2 (14, kk, [], none, vNull, [x, q.1], lo)).1 (pNode q.2 (14, kk, [], none, vNull, [x, q.1], lo)).2) := by
        conv => lhs; unfold pSumsL
        rw [if_pos hi, ← hkk]
      refine useV (w_operator k (fun e => ?_) (by omega)) ?_ ?_
      · have hk0 : ∀ s, pIs σ s = false := fun s => by unfold pIs; rw [e]; rfl
        simp only [hk0, Bool.or_self, Bool.false_eq_true] at hi
      · rintro h3 hI3 _ ⟨σ3, e3, n3, l3, q3, qa⟩ r4 h4 rfl rfl
        have s0 := POk.s0 k hI
        have n4 := n3.pok.nO (kk := 27) (N := 5) hI3 hI s0 rfl
        have o3 : psO σ3 = psO σ := n3.2.2.2.2.1.1
        refine JW.inv fun hI4 => ?_
        have w4 : Raw (nwo h3 27 5) (jsz h3 + 1) 27 := Raw.new hI3
        refine useR (hp σ3 ρ _ d n4.1 (by omega) (by omega)) ?_ ?_
        · rintro v5 h5 hI5 _ ⟨y, σ5, ρ5, e5, rfl, n5, l5⟩
          have w5 := n5.raw n4.1 hI4 w4 (by decide)
          have n25 := n4.tr n5
          have lt3 : jsz h1 ≤ jsz h3 := n3.2.1.2.2.2.1.1
          have g3 := n3.1.2.2.2.2.2.1
          have xs := x_term hx σ3 g3 _ e5
          rw [o3] at xs
          dsimp only at xs
          have xp := x_pair (o := 14) (k := kk) g hxq g3 n3.2.2.2.2.1 q3 xs.1 xs.2.1 xs.2.2 (by subst hkk; exact Or.inr (Or.inr (Or.inr (Or.inr (Or.inr (Or.inr (Or.inr (Or.inr (Or.inr (Or.inr (Or.inr (Or.inr ⟨rfl, by show (if pIs σ "+" = true then 0 else if pIs σ "-" = true then 1 else 5) ≤ 5; split; omega; split <;> omega, rfl⟩))))))))))))
          have hxl : x < (psA σ).length := by rw [← hxq.1]; omega
          refine useV0 (w_pair n25 hI5 hI s0 w5 (by omega) (by omega) xp.1 (hv.trans (n25.2.2.1 x hxl).symm) rfl hcst (by omega)) ?_
          rintro h6 hI6 _ n6
          have o6 : psO (pNode σ5 (14, kk, [], none, vNull, [x, y], lo)).2 = psO σ := n6.2.2.2.2.1.1
          have N6 : psN σ + 1 ≤ psN (pNode σ5 (14, kk, [], none, vNull, [x, y], lo)).2 := by
            have : psN σ5 = psN (pNode σ5 (14, kk, [], none, vNull, [x, y], lo)).2 := rfl
            have := n5.2.2.2.2.1.2.1
            omega
          have lp6 : lp (pNode σ5 (14, kk, [], none, vNull, [x, y], lo)).2 = lp σ5 := lp_eq rfl
          refine w_sumsXL hx hp lo N0 f _ _ h6 _ _ d Q n6.1 hI6 (by rw [o6]; exact xp.2.2) (rup_eq _ _ _).symm (by omega) (by omega) (by omega) ?_ ?_
          · rintro v7 h7 hI7 ⟨i, σ7, ρ7, e7, hv7, n7⟩
            exact hQ v7 h7 hI7 ⟨i, σ7, ρ7, by rw [eq0, e3, ok_bind, e5, ok_bind]; exact e7, hv7, (n6.tr n7).mono (by omega) (by omega)⟩
          · rintro y7 h7 hI7 ⟨er, e7, n7⟩
            exact hE y7 h7 hI7 ⟨er, by rw [eq0, e3, ok_bind, e5, ok_bind]; exact e7, n6.err (by omega) (by omega) n7⟩
        · rintro y5 h5 hI5 _ ⟨er, e5, n5⟩
          exact hE y5 h5 hI5 ⟨er, by rw [eq0, e3, ok_bind, e5]; rfl, n4.err (by omega) (by omega) n5⟩
      · rintro y3 h3 hI3 _ ⟨er, e3, n3⟩
        exact hE y3 h3 hI3 ⟨er, by rw [eq0, e3]; rfl, n3.up⟩
    have stop : ¬ ((pIs σ "+" || (pIs σ "-" || pIs σ "||")) = true) → XL D p s a base src h σ ρ (pSumsL rec true src lo (f + 1) x σ) v1 h := by
      intro hi
      refine ⟨x, σ, ρ, ?_, hv, (POk.rf k).mono (by omega) (by omega)⟩
      unfold pSumsL
      rw [if_neg hi]
    refine ⟨k.1.2.1, k.sg, ?_⟩
    rw [k.1.2.2.1]
    refine useI0 (w_is k "+" (by decide +kernel) (by omega)) ?_
    rintro v h1 _ _ ⟨rfl, rfl⟩
    by_cases ia : pIs σ "+" = true
    · rw [if_pos ia]
      exact ⟨fun z => absurd z (by decide), fun _ => ⟨fun _ => ⟨k.1.2.1, go 0 _ _ rfl (by rw [ia]; rfl) (by rw [if_pos ia]) rfl⟩, fun z => absurd z (cst0 hI (by decide))⟩⟩
    · rw [if_neg ia]
      refine ⟨fun _ => ⟨k.sg, ?_⟩, fun z => absurd rfl z⟩
      rw [k.1.2.2.1]
      refine useI0 (w_is k "-" (by decide +kernel) (by omega)) ?_
      rintro v h2 _ _ ⟨rfl, rfl⟩
      by_cases ib : pIs σ "-" = true
      · rw [if_pos ib]
        exact ⟨fun z => absurd z (by decide), fun _ => ⟨fun _ => ⟨k.1.2.1, go 1 _ _ rfl (by rw [ib]; simp) (by rw [if_neg ia, if_pos ib]) rfl⟩, fun z => absurd z (cst0 hI (by decide))⟩⟩
      · rw [if_neg ib]
        refine ⟨fun _ => ⟨k.sg, ?_⟩, fun z => absurd rfl z⟩
        rw [k.1.2.2.1]
        refine useI0 (w_is k "||" (by decide +kernel) (by omega)) ?_
        rintro v h3 _ _ ⟨rfl, rfl⟩
        by_cases ic : pIs σ "||" = true
        · rw [if_pos ic]
          exact ⟨fun z => absurd z (by decide), fun _ => ⟨fun _ => ⟨k.1.2.1, go 5 _ _ rfl (by rw [ic]; simp) (by rw [if_neg ia, if_neg ib]) rfl⟩, fun z => absurd z (cst0 hI (by decide))⟩⟩
        · rw [if_neg ic]
          exact ⟨fun _ => ⟨fun z => absurd rfl z, fun _ => hQ v1 _ hI (stop (by simp [Bool.eq_false_iff.mpr ia, Bool.eq_false_iff.mpr ib, Bool.eq_false_iff.mpr ic]))⟩, fun z => absurd rfl z⟩
theorem w_sumsX {rec : PS → Except Nat (Nat × PS)} {N : Nat} (hx : ∀ σ, Xz src (3 * (30 - psO σ)) σ (rec σ)) (hp : CT D p s a base src rec N) (σ : PS) (ρ : Nat → Nat) (h : JH) (d : Nat) (k : PsR D p s a base src h σ ρ) (hN : N ≤ psO σ) (hd : 11 * (30 - psO σ) + 26 ≤ d) :
    cX17_sums D d p h (pR D h 55 (XP D p s a base src h σ ρ (pSums rec true src σ)) (XE p s src h σ (pSums rec true src σ))) := by
  obtain ⟨e, rfl, he⟩ := dsucc hd
  refine t_X17_sums ⟨k.1.2.1, useR (hp σ ρ h e k hN (by omega)) ?_ ?_⟩
  · rintro v1 h1 hI1 _ ⟨x, σ1, ρ1, e1, hv1, n1, l1⟩
    have o1 : psO σ1 = psO σ := n1.2.2.2.2.1.1
    have xs := x_term hx σ k.2.2.2.2.2.1 _ e1
    refine ⟨302, w_sumsXL hx hp (psA σ).length (psN σ) 302 σ1 ρ1 h1 x v1 e _ n1.1 hI1 (by rw [o1]; exact xs.2.2) hv1 (by omega) (by omega) (by omega) ?_ ?_⟩
    · rintro v2 h2 hI2 ⟨i, σ2, ρ2, e2, hv2, n2⟩
      have := n2.2.2.2.2.2
      exact endR fun _ _ _ => ⟨i, σ2, ρ2, by unfold pSums; rw [e1]; exact e2, hv2, (n1.tr n2).mono (by omega) (by omega), by omega⟩
    · rintro y2 h2 hI2 ⟨er, e2, n2⟩
      exact endX fun _ _ => ⟨er, by unfold pSums; rw [e1]; exact e2, n1.err (by omega) (by omega) n2⟩
  · rintro y1 h1 hI1 _ ⟨er, e1, n1⟩
    exact endX fun _ _ => ⟨er, by unfold pSums; rw [e1]; rfl, n1⟩
/-- what nots gives -/
def CN (D : JD) (p s a base : Nat) (src : Str) (rec : PS → Except Nat (Nat × PS)) (N : Nat) : Prop := ∀ σ ρ h d, PsR D p s a base src h σ ρ → N ≤ psO σ → 11 * (30 - psO σ) + 29 ≤ d →
  cX17_nots D d p h (pR D h 55 (XP D p s a base src h σ ρ (pNots rec true src 31 σ)) (XE p s src h σ (pNots rec true src 31 σ)))
theorem w_andsL {rec : PS → Except Nat (Nat × PS)} {N : Nat} (hx : ∀ σ, Xz src (3 * (30 - psO σ)) σ (rec σ)) (hp : CN D p s a base src rec N) (lo N0 : Nat) : ∀ f σ ρ h x v1 d (Q : JO → JH → Prop), PsR D p s a base src h σ ρ → JInv D h → Xq N0 (3 * (30 - psO σ) + 3) lo σ x → v1 = ρ x → 302 ≤ f + psN σ → N ≤ psO σ → 11 * (30 - psO σ) + 29 ≤ d →
    (∀ v h', JInv D h' → XL D p s a base src h σ ρ (pAndsL rec true src lo f x σ) v h' → Q (.inl (some (vR 55 v))) h') → (∀ y h', JInv D h' → XE p s src h σ (pAndsL rec true src lo f x σ) y h' → Q (.inr y) h') → L_X17_ands_5 D d Q f p v1 h
  | 0, σ, ρ, h, x, v1, d, Q, k, _, _, _, hf, _, _, _, _ => by
    have := k.2.2.2.2.2.2.1
    exfalso; omega
  | f + 1, σ, ρ, h, x, v1, d, Q, k, hI, hxq, hv, hf, hN, hd, hQ, hE => by
    have g := k.2.2.2.2.2.1
    have go : ∀ (kk cst : Nat) (h1 : JH), h1 = h → pIs σ "and" = true → 0 = kk → cst = jcs D (opN (10, kk, [], none, vNull, [], 0)) → cX17_operator D d p h1 (pV D h1 (fun h_3 => ∀ (r_6 : Nat) (h_7 : JH), r_6 = jsz h_3 + 1 → h_7 = nwo h_3 27 5 → (cX17_nots D d p h_7 (pR D h_7 55 (fun v_12 h_10 => cX33_init D d r_6 cst v1 v_12 h_10 (pV D h_10 (fun h_13 => L_X17_ands_5 D d Q f p r_6 h_13) (jth Q))) (jth Q)))) (jth Q)) := by
      rintro kk cst h1 rfl hi hkk hcst
      have eq0 : pAndsL rec true src lo (f + 1) x σ = (pOper true src σ >>= fun q => pNots rec true src 31 q.2 >>= fun q => pAndsL rec true src lo f (pNode q.2 (10, kk, [], none, vNull, [x, q.1], lo)).1 (pNode q.2 (10, kk, [], none, vNull, [x, q.1], lo)).2) := by
        conv => lhs; unfold pAndsL
        rw [if_pos hi, ← hkk]
      refine useV (w_operator k (fun e => ?_) (by omega)) ?_ ?_
      · have hk0 : ∀ s, pIs σ s = false := fun s => by unfold pIs; rw [e]; rfl
        simp only [hk0, Bool.or_self, Bool.false_eq_true] at hi
      · rintro h3 hI3 _ ⟨σ3, e3, n3, l3, q3, qa⟩ r4 h4 rfl rfl
        have s0 := POk.s0 k hI
        have n4 := n3.pok.nO (kk := 27) (N := 5) hI3 hI s0 rfl
        have o3 : psO σ3 = psO σ := n3.2.2.2.2.1.1
        refine JW.inv fun hI4 => ?_
        have w4 : Raw (nwo h3 27 5) (jsz h3 + 1) 27 := Raw.new hI3
        refine useR (hp σ3 ρ _ d n4.1 (by omega) (by omega)) ?_ ?_
        · rintro v5 h5 hI5 _ ⟨y, σ5, ρ5, e5, rfl, n5, l5⟩
          have w5 := n5.raw n4.1 hI4 w4 (by decide)
          have n25 := n4.tr n5
          have lt3 : jsz h1 ≤ jsz h3 := n3.2.1.2.2.2.1.1
          have g3 := n3.1.2.2.2.2.2.1
          have xs := x_nots hx 31 σ3 g3 _ e5
          rw [o3] at xs
          dsimp only at xs
          have xp := x_pair (o := 10) (k := kk) g hxq g3 n3.2.2.2.2.1 q3 xs.1 xs.2.1 xs.2.2 (by subst hkk; exact Or.inr (Or.inr (Or.inr (Or.inr (Or.inr (Or.inr (Or.inr (Or.inr (Or.inr (Or.inr (Or.inl ⟨Or.inl rfl, rfl, rfl⟩)))))))))))
          have hxl : x < (psA σ).length := by rw [← hxq.1]; omega
          refine useV0 (w_pair n25 hI5 hI s0 w5 (by omega) (by omega) xp.1 (hv.trans (n25.2.2.1 x hxl).symm) rfl hcst (by omega)) ?_
          rintro h6 hI6 _ n6
          have o6 : psO (pNode σ5 (10, kk, [], none, vNull, [x, y], lo)).2 = psO σ := n6.2.2.2.2.1.1
          have N6 : psN σ + 1 ≤ psN (pNode σ5 (10, kk, [], none, vNull, [x, y], lo)).2 := by
            have : psN σ5 = psN (pNode σ5 (10, kk, [], none, vNull, [x, y], lo)).2 := rfl
            have := n5.2.2.2.2.1.2.1
            omega
          have lp6 : lp (pNode σ5 (10, kk, [], none, vNull, [x, y], lo)).2 = lp σ5 := lp_eq rfl
          refine w_andsL hx hp lo N0 f _ _ h6 _ _ d Q n6.1 hI6 (by rw [o6]; exact xp.2.2) (rup_eq _ _ _).symm (by omega) (by omega) (by omega) ?_ ?_
          · rintro v7 h7 hI7 ⟨i, σ7, ρ7, e7, hv7, n7⟩
            exact hQ v7 h7 hI7 ⟨i, σ7, ρ7, by rw [eq0, e3, ok_bind, e5, ok_bind]; exact e7, hv7, (n6.tr n7).mono (by omega) (by omega)⟩
          · rintro y7 h7 hI7 ⟨er, e7, n7⟩
            exact hE y7 h7 hI7 ⟨er, by rw [eq0, e3, ok_bind, e5, ok_bind]; exact e7, n6.err (by omega) (by omega) n7⟩
        · rintro y5 h5 hI5 _ ⟨er, e5, n5⟩
          exact hE y5 h5 hI5 ⟨er, by rw [eq0, e3, ok_bind, e5]; rfl, n4.err (by omega) (by omega) n5⟩
      · rintro y3 h3 hI3 _ ⟨er, e3, n3⟩
        exact hE y3 h3 hI3 ⟨er, by rw [eq0, e3]; rfl, n3.up⟩
    have stop : ¬ (pIs σ "and" = true) → XL D p s a base src h σ ρ (pAndsL rec true src lo (f + 1) x σ) v1 h := by
      intro hi
      refine ⟨x, σ, ρ, ?_, hv, (POk.rf k).mono (by omega) (by omega)⟩
      unfold pAndsL
      rw [if_neg hi]
    refine ⟨k.1.2.1, k.sg, ?_⟩
    rw [k.1.2.2.1]
    refine useI0 (w_isWord k "and" (by decide +kernel) (by omega)) ?_
    rintro v h1 _ _ ⟨rfl, rfl⟩
    by_cases ia : pIs σ "and" = true
    · rw [if_pos ia]
      exact ⟨fun z => absurd z (by decide), fun _ => go 0 _ _ rfl ia rfl rfl⟩
    · rw [if_neg ia]
      exact ⟨fun _ => hQ v1 _ hI (stop ia), fun z => absurd rfl z⟩
theorem w_ands {rec : PS → Except Nat (Nat × PS)} {N : Nat} (hx : ∀ σ, Xz src (3 * (30 - psO σ)) σ (rec σ)) (hp : CN D p s a base src rec N) (σ : PS) (ρ : Nat → Nat) (h : JH) (d : Nat) (k : PsR D p s a base src h σ ρ) (hN : N ≤ psO σ) (hd : 11 * (30 - psO σ) + 30 ≤ d) :
    cX17_ands D d p h (pR D h 55 (XP D p s a base src h σ ρ (pAnds rec true src σ)) (XE p s src h σ (pAnds rec true src σ))) := by
  obtain ⟨e, rfl, he⟩ := dsucc hd
  refine t_X17_ands ⟨k.1.2.1, useR (hp σ ρ h e k hN (by omega)) ?_ ?_⟩
  · rintro v1 h1 hI1 _ ⟨x, σ1, ρ1, e1, hv1, n1, l1⟩
    have o1 : psO σ1 = psO σ := n1.2.2.2.2.1.1
    have xs := x_nots hx 31 σ k.2.2.2.2.2.1 _ e1
    refine ⟨302, w_andsL hx hp (psA σ).length (psN σ) 302 σ1 ρ1 h1 x v1 e _ n1.1 hI1 (by rw [o1]; exact xs.2.2) hv1 (by omega) (by omega) (by omega) ?_ ?_⟩
    · rintro v2 h2 hI2 ⟨i, σ2, ρ2, e2, hv2, n2⟩
      have := n2.2.2.2.2.2
      exact endR fun _ _ _ => ⟨i, σ2, ρ2, by unfold pAnds; rw [e1]; exact e2, hv2, (n1.tr n2).mono (by omega) (by omega), by omega⟩
    · rintro y2 h2 hI2 ⟨er, e2, n2⟩
      exact endX fun _ _ => ⟨er, by unfold pAnds; rw [e1]; exact e2, n1.err (by omega) (by omega) n2⟩
  · rintro y1 h1 hI1 _ ⟨er, e1, n1⟩
    exact endX fun _ _ => ⟨er, by unfold pAnds; rw [e1]; rfl, n1⟩
/-- what ands gives -/
def CA (D : JD) (p s a base : Nat) (src : Str) (rec : PS → Except Nat (Nat × PS)) (N : Nat) : Prop := ∀ σ ρ h d, PsR D p s a base src h σ ρ → N ≤ psO σ → 11 * (30 - psO σ) + 30 ≤ d →
  cX17_ands D d p h (pR D h 55 (XP D p s a base src h σ ρ (pAnds rec true src σ)) (XE p s src h σ (pAnds rec true src σ)))
theorem w_orsL {rec : PS → Except Nat (Nat × PS)} {N : Nat} (hx : ∀ σ, Xz src (3 * (30 - psO σ)) σ (rec σ)) (hp : CA D p s a base src rec N) (lo N0 : Nat) : ∀ f σ ρ h x v1 d (Q : JO → JH → Prop), PsR D p s a base src h σ ρ → JInv D h → Xq N0 (3 * (30 - psO σ) + 3) lo σ x → v1 = ρ x → 302 ≤ f + psN σ → N ≤ psO σ → 11 * (30 - psO σ) + 30 ≤ d →
    (∀ v h', JInv D h' → XL D p s a base src h σ ρ (pOrsL rec true src lo f x σ) v h' → ∀ h2, h2 = wfi h' 80 p (jfi h' 80 p - 1) → Q (.inl (some (vR 55 v))) h2) → (∀ y h', JInv D h' → XE p s src h σ (pOrsL rec true src lo f x σ) y h' → Q (.inr y) h') → L_X17_expression_9 D d Q f p v1 h
  | 0, σ, ρ, h, x, v1, d, Q, k, _, _, _, hf, _, _, _, _ => by
    have := k.2.2.2.2.2.2.1
    exfalso; omega
  | f + 1, σ, ρ, h, x, v1, d, Q, k, hI, hxq, hv, hf, hN, hd, hQ, hE => by
    have g := k.2.2.2.2.2.1
    have go : ∀ (kk cst : Nat) (h1 : JH), h1 = h → pIs σ "or" = true → 0 = kk → cst = jcs D (opN (11, kk, [], none, vNull, [], 0)) → cX17_operator D d p h1 (pV D h1 (fun h_3 => ∀ (r_6 : Nat) (h_7 : JH), r_6 = jsz h_3 + 1 → h_7 = nwo h_3 27 5 → (cX17_ands D d p h_7 (pR D h_7 55 (fun v_12 h_10 => cX33_init D d r_6 cst v1 v_12 h_10 (pV D h_10 (fun h_13 => L_X17_expression_9 D d Q f p r_6 h_13) (jth Q))) (jth Q)))) (jth Q)) := by
      rintro kk cst h1 rfl hi hkk hcst
      have eq0 : pOrsL rec true src lo (f + 1) x σ = (pOper true src σ >>= fun q => pAnds rec true src q.2 >>= fun q => pOrsL rec true src lo f (pNode q.2 (11, kk, [], none, vNull, [x, q.1], lo)).1 (pNode q.2 (11, kk, [], none, vNull, [x, q.1], lo)).2) := by
        conv => lhs; unfold pOrsL
        rw [if_pos hi, ← hkk]
      refine useV (w_operator k (fun e => ?_) (by omega)) ?_ ?_
      · have hk0 : ∀ s, pIs σ s = false := fun s => by unfold pIs; rw [e]; rfl
        simp only [hk0, Bool.or_self, Bool.false_eq_true] at hi
      · rintro h3 hI3 _ ⟨σ3, e3, n3, l3, q3, qa⟩ r4 h4 rfl rfl
        have s0 := POk.s0 k hI
        have n4 := n3.pok.nO (kk := 27) (N := 5) hI3 hI s0 rfl
        have o3 : psO σ3 = psO σ := n3.2.2.2.2.1.1
        refine JW.inv fun hI4 => ?_
        have w4 : Raw (nwo h3 27 5) (jsz h3 + 1) 27 := Raw.new hI3
        refine useR (hp σ3 ρ _ d n4.1 (by omega) (by omega)) ?_ ?_
        · rintro v5 h5 hI5 _ ⟨y, σ5, ρ5, e5, rfl, n5, l5⟩
          have w5 := n5.raw n4.1 hI4 w4 (by decide)
          have n25 := n4.tr n5
          have lt3 : jsz h1 ≤ jsz h3 := n3.2.1.2.2.2.1.1
          have g3 := n3.1.2.2.2.2.2.1
          have xs := x_ands hx σ3 g3 _ e5
          rw [o3] at xs
          dsimp only at xs
          have xp := x_pair (o := 11) (k := kk) g hxq g3 n3.2.2.2.2.1 q3 xs.1 xs.2.1 xs.2.2 (by subst hkk; exact Or.inr (Or.inr (Or.inr (Or.inr (Or.inr (Or.inr (Or.inr (Or.inr (Or.inr (Or.inr (Or.inl ⟨Or.inr rfl, rfl, rfl⟩)))))))))))
          have hxl : x < (psA σ).length := by rw [← hxq.1]; omega
          refine useV0 (w_pair n25 hI5 hI s0 w5 (by omega) (by omega) xp.1 (hv.trans (n25.2.2.1 x hxl).symm) rfl hcst (by omega)) ?_
          rintro h6 hI6 _ n6
          have o6 : psO (pNode σ5 (11, kk, [], none, vNull, [x, y], lo)).2 = psO σ := n6.2.2.2.2.1.1
          have N6 : psN σ + 1 ≤ psN (pNode σ5 (11, kk, [], none, vNull, [x, y], lo)).2 := by
            have : psN σ5 = psN (pNode σ5 (11, kk, [], none, vNull, [x, y], lo)).2 := rfl
            have := n5.2.2.2.2.1.2.1
            omega
          have lp6 : lp (pNode σ5 (11, kk, [], none, vNull, [x, y], lo)).2 = lp σ5 := lp_eq rfl
          refine w_orsL hx hp lo N0 f _ _ h6 _ _ d Q n6.1 hI6 (by rw [o6]; exact xp.2.2) (rup_eq _ _ _).symm (by omega) (by omega) (by omega) ?_ ?_
          · rintro v7 h7 hI7 ⟨i, σ7, ρ7, e7, hv7, n7⟩
            exact hQ v7 h7 hI7 ⟨i, σ7, ρ7, by rw [eq0, e3, ok_bind, e5, ok_bind]; exact e7, hv7, (n6.tr n7).mono (by omega) (by omega)⟩
          · rintro y7 h7 hI7 ⟨er, e7, n7⟩
            exact hE y7 h7 hI7 ⟨er, by rw [eq0, e3, ok_bind, e5, ok_bind]; exact e7, n6.err (by omega) (by omega) n7⟩
        · rintro y5 h5 hI5 _ ⟨er, e5, n5⟩
          exact hE y5 h5 hI5 ⟨er, by rw [eq0, e3, ok_bind, e5]; rfl, n4.err (by omega) (by omega) n5⟩
      · rintro y3 h3 hI3 _ ⟨er, e3, n3⟩
        exact hE y3 h3 hI3 ⟨er, by rw [eq0, e3]; rfl, n3.up⟩
    have stop : ¬ (pIs σ "or" = true) → XL D p s a base src h σ ρ (pOrsL rec true src lo (f + 1) x σ) v1 h := by
      intro hi
      refine ⟨x, σ, ρ, ?_, hv, (POk.rf k).mono (by omega) (by omega)⟩
      unfold pOrsL
      rw [if_neg hi]
    refine ⟨k.1.2.1, k.sg, ?_⟩
    rw [k.1.2.2.1]
    refine useI0 (w_isWord k "or" (by decide +kernel) (by omega)) ?_
    rintro v h1 _ _ ⟨rfl, rfl⟩
    by_cases ia : pIs σ "or" = true
    · rw [if_pos ia]
      exact ⟨fun z => absurd z (by decide), fun _ => go 0 _ _ rfl ia rfl rfl⟩
    · rw [if_neg ia]
      exact ⟨fun _ h7 h7e => hQ v1 _ hI (stop ia) h7 h7e, fun z => absurd rfl z⟩
end
