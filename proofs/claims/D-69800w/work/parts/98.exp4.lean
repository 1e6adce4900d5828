/-! expressions of the component: IN, LIKE, BETWEEN -/
section
variable {D : JD} {p s a base : Nat} {src : Str} {h h' h'' h0 : JH} {σ σ' σ'' σ0 : PS} {ρ ρ' ρ'' ρ0 : Nat → Nat} {n m n' m' : Int} {d c r : Nat}
/-- what is left of a list that ends with a bracket -/
def inS (rec : PS → Except Nat (Nat × PS)) (src : Str) (lo x0 f : Nat) (l : List Nat) (σ : PS) : Except Nat (Nat × PS) :=
  pList rec true src 8 f l σ >>= fun q => pNeed true src ")" q.2 >>= fun r => .ok (pNode r.2 (5, 0, [], none, vNull, x0 :: q.1, lo))
/-- the parser has come from σ0 to σ -/
def Pd (D : JD) (p s a base : Nat) (src : Str) (h0 h : JH) (σ0 σ : PS) (ρ0 ρ : Nat → Nat) : Prop := POk D p s a base src h0 h σ0 σ ρ0 ρ (40 * (lp σ - lp σ0)) (1200 * (lp σ - lp σ0))
theorem Pd.err {x e : Nat} {t : Int} (h1 : Pd D p s a base src h h' σ σ' ρ ρ') (h2 : PErG t p s src h' h'' σ' x e) (ht : t = 0 ∨ t = 1 := by first | exact Or.inl rfl | exact Or.inr rfl) : PErr p s src h h'' σ x e := POk.err h1 (Int.le_refl _) (Int.le_refl _) h2 ht
theorem Pd.tr (h1 : Pd D p s a base src h h' σ σ' ρ ρ') (h2 : POk D p s a base src h' h'' σ' σ'' ρ' ρ'' n m) (hn : n ≤ 40 * (lp σ'' - lp σ')) (hm : m ≤ 1200 * (lp σ'' - lp σ')) : Pd D p s a base src h h'' σ σ'' ρ ρ'' := (POk.tr h1 h2).mono (by omega) (by omega)
theorem w_within {o lo x : Nat} {l : List Nat} {v z : Int32} (ok : POk D p s a base src h0 h σ0 σ ρ0 ρ n m) (hI : JInv D h) (hI0 : JInv D h0) (hs : s ≤ jsz h0) (w : Raw h r 29) (hr : jsz h0 < r) (ho : o = 5 ∨ o = 7) (g : Gd src (pNode σ (o, 0, [], none, vNull, l, lo)).2) (ar : ArR h ρ x l) (u : ArU h x) (hx : jsz h0 < x) (hv : v = nI l.length) (hz : z = if o = 5 then 0 else 1) (hd : 4 ≤ d) :
    cX35_init D d r x v z h (pV D h (fun h' => POk D p s a base src h0 h' σ0 (pNode σ (o, 0, [], none, vNull, l, lo)).2 ρ0 (rup ρ (psA σ).length r) (n + 2) (m + 45)) no) := by
  refine JW.up (n := 4) (fun d => useV0 (k_withinInit (d := d) w (by rw [hz]; split; exact jbo0; exact jbo1)) ?_) hd
  rintro h1 hI1 _ ⟨mk, e1, e2, e3, e4⟩
  have rk := w.2.2.1
  exact (ok.mkL hI hI0 hs w (by decide) hr (MkL.of hI mk ok.1.2.2.2.1 (by rw [rk]; decide)) fun q => by
    by_cases e : q = r
    · rw [e, e1]; exact Or.inr hx
    · exact Or.inl (e4 q e)).node (nod_within mk w ho (ar.mk u.1 (by rw [rk]; decide) mk.1) e1 (e2.trans hv) (e3.trans hz)) g (ok.1.rawNe w)
theorem w_amongL {k0 : Nat} {rec : PS → Except Nat (Nat × PS)} (hr : ∀ σ ρ h d, PsR D p s a base src h σ ρ → k0 ≤ psO σ → 11 * (30 - psO σ) + 20 ≤ d → cX17_expression D d p h (pR D h 55 (XP D p s a base src h σ ρ (rec σ)) (XE p s src h σ (rec σ)))) (hI0 : JInv D h0) (hs0 : s ≤ jsz h0) (lo x0 arr : Nat) (ha : jsz h0 < arr) : ∀ f l σ ρ h d (Q : JO → JH → Prop), Pd D p s a base src h0 h σ0 σ ρ0 ρ → JInv D h → ArR h ρ arr (x0 :: l) → ArU h arr → jln h arr = 9 → (∀ x ∈ x0 :: l, x < (psA σ).length) → 9 ≤ f + l.length → l.length ≤ 8 → k0 ≤ psO σ → 11 * (30 - psO σ) + 20 ≤ d →
    (∀ i σ', inS rec src lo x0 f l σ = .ok (i, σ') → Gd src σ') → (∀ σ x σ', rec σ = .ok (x, σ') → Gd src σ → x < (psA σ').length) →
    (∀ v h', JInv D h' → (∃ i σ' ρ', inS rec src lo x0 f l σ = .ok (i, σ') ∧ v = ρ' i ∧ Pd D p s a base src h0 h' σ0 σ' ρ0 ρ' ∧ lp σ + 1 ≤ lp σ') → Q (.inl (some (vR 55 v))) h') → (∀ y h', JInv D h' → XE p s src h0 σ0 (inS rec src lo x0 f l σ) y h' → Q (.inr y) h') → L_X17_among_122 D d Q f p arr (nI (l.length + 1)) h
  | 0, l, σ, ρ, h, d, Q, k, _, _, _, _, _, hf, hl, _, _, _, _, _, _ => by exfalso; omega
  | f + 1, l, σ, ρ, h, d, Q, k, hI, ar, u, hln, hlt, hf, hl, hN, hd, hG, hR, hQ, hE => by
    by_cases e8 : l.length = 8
    · refine ⟨fun z => absurd (by rw [e8]; rfl) z, fun _ => ⟨k.1.1.2.1, useR0 (w_broken k.1 (by omega)) ?_⟩⟩
      rintro y h1 hI1 _ n1
      refine ⟨n1.1.1, hE y h1 hI1 ⟨tkF (psT σ) + 1, ?_, k.err n1⟩⟩
      unfold inS pList
      rw [if_pos (by simpa using e8)]; rfl
    · have eq0 : inS rec src lo x0 (f + 1) l σ = (rec σ >>= fun q => pTake true src "," q.2 >>= fun r => if r.1 = true then inS rec src lo x0 f (l ++ [q.1]) r.2 else pNeed true src ")" r.2 >>= fun t => .ok (pNode t.2 (5, 0, [], none, vNull, x0 :: (l ++ [q.1]), lo))) := by
        unfold inS
        conv => lhs; unfold pList
        rw [if_neg (by simpa using e8)]
        cases rec σ with
        | error e => rfl
        | ok q =>
          show (pTake true src "," q.2 >>= _) >>= _ = (pTake true src "," q.2 >>= _)
          cases pTake true src "," q.2 with
          | error e => rfl
          | ok r =>
            obtain ⟨b, τ⟩ := r
            cases b <;> rfl
      refine ⟨fun _ => ⟨k.1.1.2.1, useR (hr σ ρ h d k.1 hN hd) ?_ ?_⟩, fun z => absurd ((nI_eq (b := 9) (by omega) (by omega)).mp z) (by omega)⟩
      · rintro v1 h1 hI1 _ ⟨x, σ1, ρ1, e1, hv1, n1, l1⟩
        have kd1 : Pd D p s a base src h0 h1 σ0 σ1 ρ0 ρ1 := k.tr n1 (Int.le_refl _) (Int.le_refl _)
        obtain ⟨ar1, u1⟩ := n1.arr k.1 hI ar u hlt
        have ln1 : jln h1 arr = 9 := by rw [(n1.2.1.arS hI k.1.1.1 k.1.s15.1 ar.1 u).ln, hln]
        refine ⟨ar.1, by rw [ln1]; exact jin_nI (by omega) (by omega), ?_⟩
        rintro h2 rfl
        rw [ixn_nI (by omega)]
        have kd2 := POk.sto (i := l.length + 1) (v := v1) kd1 hI1 hI0 hs0 u1 ha
        have ar2 : ArR (war h1 arr (l.length + 1) v1) ρ1 arr ((x0 :: l) ++ [x]) := ar1.put hv1 (by rw [ln1]; simp; omega)
        have u2 := u1.put (i := l.length + 1) (v := v1)
        refine ⟨kd2.1.sg, ?_⟩
        rw [kd2.1.1.2.2.1]
        refine JW.inv fun hI2 => useI (w_takes kd2.1 "," (by decide +kernel) (by omega)) ?_ ?_
        · rintro v3 h3 hI3 _ ⟨b, σ3, e3, rfl, n3, q3, t3, f3⟩
          have kd3 : Pd D p s a base src h0 h3 σ0 σ3 ρ0 ρ1 := Pd.tr kd2 n3 (by have := n3.2.2.2.2.2; omega) (by have := n3.2.2.2.2.2; omega)
          have lt2 : ∀ z ∈ (x0 :: l) ++ [x], z < (psA σ1).length := fun z hz => by
            rcases List.mem_append.mp hz with e | e
            · exact Nat.lt_of_lt_of_le (hlt z e) n1.2.2.2.2.1.len
            · rw [List.mem_singleton.mp e]; exact hR σ x σ1 e1 k.1.2.2.2.2.2.1
          obtain ⟨ar3, u3⟩ := n3.arr kd2.1 hI2 ar2 u2 lt2
          have ln3 : jln h3 arr = 9 := by rw [(n3.2.1.arS hI2 kd2.1.1.1 kd2.1.s15.1 ar.1 u2).ln]; exact ln1
          have o1 : psO σ1 = psO σ := n1.2.2.2.2.1.1
          have o3 : psO σ3 = psO σ1 := n3.2.2.2.2.1.1
          have A3 : psA σ3 = psA σ1 := by unfold psA; rw [q3]
          cases b with
          | true =>
            refine ⟨fun _ => ?_, fun z => absurd z (by decide)⟩
            rw [nI_1]
            have := w_amongL hr hI0 hs0 lo x0 arr ha f (l ++ [x]) σ3 ρ1 h3 d Q kd3 hI3 ar3 u3 ln3 (by rw [A3]; exact lt2) (by simp; omega) (by simp; omega) (by omega) (by omega) (fun i σ' e => hG i σ' (by rw [eq0, e1, ok_bind, e3, ok_bind]; exact e)) hR ?_ ?_
            · rwa [List.length_append] at this
            · rintro v4 h4 hI4 ⟨i, σ4, ρ4, e4, hv4, n4, l4⟩
              have := n3.2.2.2.2.2
              exact hQ v4 h4 hI4 ⟨i, σ4, ρ4, by rw [eq0, e1, ok_bind, e3, ok_bind]; exact e4, hv4, n4, by omega⟩
            · rintro y4 h4 hI4 ⟨er, e4, n4⟩
              exact hE y4 h4 hI4 ⟨er, by rw [eq0, e1, ok_bind, e3, ok_bind]; exact e4, n4⟩
          | false =>
            refine ⟨fun z => absurd rfl z, fun _ => ⟨kd3.1.sg, ?_⟩⟩
            rw [kd3.1.1.2.2.1]
            refine useV (w_need kd3.1 ")" (by decide +kernel) (by omega)) ?_ ?_
            · rintro h4 hI4 _ ⟨σ4, e4, n4, l4, q4⟩ r5 h5 rfl rfl
              have kd4 := POk.tr kd3 n4
              obtain ⟨ar4, u4⟩ := n4.arr kd3.1 hI3 ar3 u3 (by rw [A3]; exact lt2)
              have kd5 := kd4.nO (kk := 29) (N := 5) hI4 hI0 hs0 rfl
              refine JW.inv fun hI5 => ?_
              have eq1 : inS rec src lo x0 (f + 1) l σ = .ok (pNode σ4 (5, 0, [], none, vNull, x0 :: (l ++ [x]), lo)) := by
                rw [eq0, e1, ok_bind, e3, ok_bind]
                show (pNeed true src ")" σ3 >>= _) = _
                rw [e4]; rfl
              have g5 : Gd src (pNode σ4 (5, 0, [], none, vNull, x0 :: (l ++ [x]), lo)).2 := hG _ _ eq1
              have lt4 : jsz h0 ≤ jsz h4 := kd4.2.1.2.2.2.1.1
              refine useV0 (w_within (l := x0 :: (l ++ [x])) kd5 hI5 hI0 hs0 (Raw.new hI4) (by omega) (Or.inl rfl) g5 (ar4.nO u4) u4.nO ha (by rw [nI_1]; simp) rfl (by omega)) ?_
              rintro h6 hI6 _ n6
              have lp6 : lp (pNode σ4 (5, 0, [], none, vNull, x0 :: (l ++ [x]), lo)).2 = lp σ4 := lp_eq rfl
              have := n3.2.2.2.2.2
              refine hQ _ h6 hI6 ⟨(pNode σ4 (5, 0, [], none, vNull, x0 :: (l ++ [x]), lo)).1, (pNode σ4 (5, 0, [], none, vNull, x0 :: (l ++ [x]), lo)).2, _, eq1, (rup_eq _ _ _).symm, n6.mono (by omega) (by omega), by omega⟩
            · rintro y4 h4 hI4 _ ⟨er, e4, n4⟩
              refine hE y4 h4 hI4 ⟨er, ?_, kd3.err n4⟩
              rw [eq0, e1, ok_bind, e3, ok_bind]
              show (pNeed true src ")" σ3 >>= _) = _
              rw [e4]; rfl
        · rintro y3 h3 hI3 _ ⟨er, e3, n3⟩
          exact hE y3 h3 hI3 ⟨er, by rw [eq0, e1, ok_bind, e3]; rfl, Pd.err kd2 n3⟩
      · rintro y1 h1 hI1 _ ⟨er, e1, n1⟩
        exact hE y1 h1 hI1 ⟨er, by rw [eq0, e1]; rfl, k.err n1⟩
end
