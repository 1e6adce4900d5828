/-! expressions of the component: comparisons, NOT -/
section
variable {D : JD} {p s a base : Nat} {src : Str} {h h' h'' h0 : JH} {σ σ' σ'' σ0 : PS} {ρ ρ' ρ'' ρ0 : Nat → Nat} {n m n' m' : Int} {d c r : Nat}
/-- what comes behind the first sum -/
def cmR (rec : PS → Except Nat (Nat × PS)) (src : Str) (lo x : Nat) (σ : PS) : Except Nat (Nat × PS) := match pCmp σ with
  | some k => pNext true src σ >>= fun q => pSums rec true src q.2 >>= fun r => .ok (pNode r.2 (9, k, [], none, vNull, [x, r.1], lo))
  | none =>
    if pIs σ "is" = true then pNext true src σ >>= fun q => pTake true src "not" q.2 >>= fun t => pNeed true src "null" t.2 >>= fun w => .ok (pNode w.2 (8, if t.1 = true then 1 else 0, [], none, vNull, [x], lo))
    else if pIs σ "not" = true then pNext true src σ >>= fun q => pAmong rec true src lo x true q.2 >>= fun r => .ok (pNode r.2 (12, 0, [], none, vNull, [r.1], lo))
    else pAmong rec true src lo x false σ
theorem cmpd_eq {rec : PS → Except Nat (Nat × PS)} : pCompared rec true src σ = (pSums rec true src σ >>= fun q => cmR rec src (psA σ).length q.1 q.2) := rfl
theorem cmp_none {w : String} (h : pIs σ w = true) (hw : sReserved.contains (sStr w) = true) (k : WT src σ) : pCmp σ = none := by
  rw [pCmp_eq, if_neg]
  rcases ((is_word hw k).mpr h).1 with z | z <;> omega
theorem takeE {w : String} {er : Nat} (e : pTake true src w σ = .error er) : pIs σ w = true ∧ pNext true src σ = .error er := by
  unfold pTake at e
  by_cases i : pIs σ w = true
  · rw [if_pos i] at e
    refine ⟨i, ?_⟩
    revert e
    cases pNext true src σ with
    | ok q => intro e; cases e
    | error z => intro e; cases e; rfl
  · rw [if_neg i] at e
    cases e
theorem w_missing {k lo x vx : Nat} {v : Int32} (ok : POk D p s a base src h0 h σ0 σ ρ0 ρ n m) (hI : JInv D h) (hI0 : JInv D h0) (hs : s ≤ jsz h0) (w : Raw h r 28) (hr : jsz h0 < r) (g : Gd src (pNode σ (8, k, [], none, vNull, [x], lo)).2) (hx : vx = ρ x) (hk : k ≤ 1) (hv : v = nI k) (hd : 3 ≤ d) :
    cX34_init D d r vx v h (pV D h (fun h' => POk D p s a base src h0 h' σ0 (pNode σ (8, k, [], none, vNull, [x], lo)).2 ρ0 (rup ρ (psA σ).length r) (n + 2) (m + 45)) no) := by
  refine JW.up (n := 3) (fun d => useV0 (k_missingInit (d := d) w (by rw [hv]; rcases (show k = 0 ∨ k = 1 by omega) with rfl | rfl; exact jbo0; exact jbo1)) ?_) hd
  rintro h1 hI1 _ ⟨mk, e1, ⟨e2, e3⟩, e4⟩
  exact (ok.mkL hI hI0 hs w (by decide) hr (MkL.of hI mk ok.1.2.2.2.1 (by rw [w.2.2.1]; decide)) fun q => Or.inl (e4 q)).node (nod_missing mk w (e1.trans hx) (e2.trans hv) e3) g (ok.1.rawNe w)
theorem POk.hs (k : POk D p s a base src h0 h σ0 σ ρ0 ρ n m) (hI : JInv D h) (hh : HS h h') : POk D p s a base src h0 h' σ0 σ ρ0 ρ n m :=
  ⟨k.1.hs hI hh, k.2.1.tr (hh.sgf (p := p) hI k.1.s15.1).1, k.2.2.1, (k.2.2.2.1.tr hh.sp).mono (by omega) (by omega), k.2.2.2.2⟩
def CC (D : JD) (p s a base : Nat) (src : Str) (rec : PS → Except Nat (Nat × PS)) (N : Nat) : Prop := ∀ σ ρ h d, PsR D p s a base src h σ ρ → N ≤ psO σ → 11 * (30 - psO σ) + 28 ≤ d →
  cX17_compared D d p h (pR D h 55 (XP D p s a base src h σ ρ (pCompared rec true src σ)) (XE p s src h σ (pCompared rec true src σ)))
theorem w_compared {N : Nat} {rec : PS → Except Nat (Nat × PS)} (hx : ∀ σ, Xz src (3 * (30 - psO σ)) σ (rec σ)) (hr : CXr D p s a base src rec N) (hsm : CS D p s a base src rec N) : CC D p s a base src rec N := by
  intro σ ρ h d k hN hd
  obtain ⟨e, rfl, he⟩ := dsucc hd
  have g := k.2.2.2.2.2.1
  refine JW.inv fun hI => ?_
  have s0 := POk.s0 k hI
  refine t_X17_compared ⟨k.1.2.1, useR (hsm σ ρ h e k hN (by omega)) ?_ ?_⟩
  · rintro v1 h1 hI1 _ ⟨x, σ1, ρ1, e1, hv1, n1, l1⟩
    have o1 : psO σ1 = psO σ := n1.2.2.2.2.1.1
    have xs := (x_sums hx σ g _ e1).2.2
    dsimp only at xs
    have hxl : x < (psA σ1).length := by rw [← xs.1]; omega
    have eqC : pCompared rec true src σ = cmR rec src (psA σ).length x σ1 := by rw [cmpd_eq, e1]; rfl
    have wt1 := n1.1.2.2.2.2.2.1.1
    -- behind the test of a comparison: NOT, IN, LIKE, BETWEEN
    have none74 : ∀ h2, JInv D h2 → POk D p s a base src h h2 σ σ1 ρ ρ1 (40 * (lp σ1 - lp σ)) (1200 * (lp σ1 - lp σ)) → pCmp σ1 = none → pIs σ1 "is" = false → W_X17_compared_74 D e (pR D h 55 (XP D p s a base src h σ ρ (pCompared rec true src σ)) (XE p s src h σ (pCompared rec true src σ))) p v1 0 h2 := by
      intro h2 hI2 n2 hc his
      refine ⟨fun _ => ⟨n2.1.1.2.1, n2.1.sg, ?_⟩, fun z => absurd rfl z⟩
      rw [n2.1.1.2.2.1]
      refine useI (w_takesWord n2.1 "not" (by decide +kernel) (by omega)) ?_ ?_
      · rintro v3 h3 hI3 _ ⟨b, σ3, e3, rfl, n3, q3, t3, f3⟩
        have n23 := n2.tr n3
        have o3 : psO σ3 = psO σ1 := n3.2.2.2.2.1.1
        have A3 : psA σ3 = psA σ1 := by unfold psA; rw [q3]
        have xs3 : Xq (psN σ) (3 * (30 - psO σ3) + 1) (psA σ).length σ3 x := by rw [o3, o1]; exact xs.go q3
        cases b with
        | true =>
          obtain ⟨it, en, l3⟩ := t3 rfl
          have eq0 : pCompared rec true src σ = (pAmong rec true src (psA σ).length x true σ3 >>= fun r => .ok (pNode r.2 (12, 0, [], none, vNull, [r.1], (psA σ).length))) := by
            rw [eqC]; unfold cmR
            rw [hc]
            show (if pIs σ1 "is" = true then _ else _) = _
            rw [if_neg (by rw [his]; simp), if_pos it, en]; rfl
          refine useR (w_among hx hr hsm true n3.1 xs3 hv1 (by omega) (by omega)) ?_ ?_
          · rintro v4 h4 hI4 _ hv4
            rcases hv4 with ⟨rfl, rfl, ii, il, ib⟩ | ⟨hv0, ⟨i, σ4, ρ4, e4, hv4, n4, l4⟩, _⟩
            · refine ⟨fun z => absurd rfl z, fun _ => ⟨fun z => absurd z (by decide), fun _ => useR0 (w_broken n3.1 (by omega)) ?_⟩⟩
              rintro y5 h5 hI5 _ n5
              refine ⟨n5.1.1, endX fun _ _ => ⟨tkF (psT σ3) + 1, ?_, n23.err (by omega) (by omega) n5⟩⟩
              rw [eq0]
              unfold pAmong
              rw [if_neg (by rw [ii]; simp), if_neg (by rw [il]; simp), if_neg (by rw [ib]; simp), if_pos rfl]; rfl
            · refine ⟨fun _ => ⟨fun z => absurd z (by decide), fun _ => ?_⟩, fun z => absurd z hv0⟩
              rintro r5 h5 rfl rfl
              have n24 := n23.tr n4
              have n25 := n24.nO (kk := 26) (N := 4) hI4 hI s0 rfl
              have eq1 : pCompared rec true src σ = .ok (pNode σ4 (12, 0, [], none, vNull, [i], (psA σ).length)) := by rw [eq0, e4]; rfl
              have xc := x_compared hx σ g _ eq1
              have lt4 : jsz h ≤ jsz h4 := n24.2.1.2.2.2.1.1
              refine JW.inv fun hI5 => useV0 (w_turned n25 hI5 hI s0 (Raw.new hI4) (by omega) (Or.inl rfl) xc.1 hv4 rfl (by omega)) ?_
              rintro h6 hI6 _ n6
              have lp6 : lp (pNode σ4 (12, 0, [], none, vNull, [i], (psA σ).length)).2 = lp σ4 := lp_eq rfl
              exact endR fun _ _ _ => ⟨(pNode σ4 (12, 0, [], none, vNull, [i], (psA σ).length)).1, (pNode σ4 (12, 0, [], none, vNull, [i], (psA σ).length)).2, _, eq1, (rup_eq _ _ _).symm, n6.mono (by omega) (by omega), by omega⟩
          · rintro y4 h4 hI4 _ ⟨er, e4, n4⟩
            exact endX fun _ _ => ⟨er, by rw [eq0, e4]; rfl, n23.err (by omega) (by omega) n4⟩
        | false =>
          obtain ⟨it, rfl, rfl⟩ := f3 rfl
          have eq0 : pCompared rec true src σ = pAmong rec true src (psA σ).length x false σ3 := by
            rw [eqC]; unfold cmR
            rw [hc]
            show (if pIs σ3 "is" = true then _ else _) = _
            rw [if_neg (by rw [his]; simp), if_neg (by rw [it]; simp)]
          refine useR (w_among hx hr hsm false n3.1 xs3 hv1 (by omega) (by omega)) ?_ ?_
          · rintro v4 h4 hI4 _ hv4
            rcases hv4 with ⟨rfl, rfl, ii, il, ib⟩ | ⟨hv0, ⟨i, σ4, ρ4, e4, hv4, n4, l4⟩, _⟩
            · refine ⟨fun z => absurd rfl z, fun _ => ⟨fun _ => endR fun _ _ _ => ⟨x, σ3, ρ1, ?_, hv1, n2, l1⟩, fun z => absurd rfl z⟩⟩
              rw [eq0]
              unfold pAmong
              rw [if_neg (by rw [ii]; simp), if_neg (by rw [il]; simp), if_neg (by rw [ib]; simp), if_neg (by simp)]
            · have := n2.tr n4
              exact ⟨fun _ => ⟨fun _ => endR fun _ _ _ => ⟨i, σ4, ρ4, by rw [eq0, e4], hv4, this.mono (by omega) (by omega), by omega⟩, fun z => absurd rfl z⟩, fun z => absurd z hv0⟩
          · rintro y4 h4 hI4 _ ⟨er, e4, n4⟩
            exact endX fun _ _ => ⟨er, by rw [eq0, e4], n2.err (Int.le_refl _) (Int.le_refl _) n4⟩
      · rintro y3 h3 hI3 _ ⟨er, e3, n3⟩
        obtain ⟨it, en⟩ := takeE e3
        refine endX fun _ _ => ⟨er, ?_, n2.err (Int.le_refl _) (Int.le_refl _) n3⟩
        rw [eqC]; unfold cmR
        rw [hc]
        show (if pIs σ1 "is" = true then _ else _) = _
        rw [if_neg (by rw [his]; simp), if_pos it, en]; rfl
    refine ⟨n1.1.sg, ?_⟩
    rw [n1.1.1.2.2.1]
    refine useI (w_takesWord n1.1 "is" (by decide +kernel) (by omega)) ?_ ?_
    · rintro v2 h2 hI2 _ ⟨b, σ2, e2, rfl, n2, q2, t2, f2⟩
      cases b with
      | true =>
        obtain ⟨is, en, l2⟩ := t2 rfl
        have n12 := n1.tr n2
        have hc := cmp_none is (by decide +kernel) wt1
        have eq0 : pCompared rec true src σ = (pTake true src "not" σ2 >>= fun t => pNeed true src "null" t.2 >>= fun w => .ok (pNode w.2 (8, if t.1 = true then 1 else 0, [], none, vNull, [x], (psA σ).length))) := by
          rw [eqC]; unfold cmR
          rw [hc]
          show (if pIs σ1 "is" = true then _ else _) = _
          rw [if_pos is, en]; rfl
        refine ⟨fun z => absurd z (by decide), fun _ => ⟨n2.1.sg, ?_⟩⟩
        rw [n2.1.1.2.2.1]
        refine useI (w_takesWord n2.1 "not" (by decide +kernel) (by omega)) ?_ ?_
        · rintro v3 h3 hI3 _ ⟨b, σ3, e3, rfl, n3, q3, t3, f3⟩
          have n13 := n12.tr n3
          refine ⟨n3.1.sg, ?_⟩
          rw [n3.1.1.2.2.1]
          refine useV (w_needWord n3.1 "null" (by decide +kernel) (by omega)) ?_ ?_
          · rintro h4 hI4 _ ⟨σ4, e4, n4, l4, q4⟩ r5 h5 rfl rfl
            have n14 := n13.tr n4
            have n15 := n14.nO (kk := 28) (N := 4) hI4 hI s0 rfl
            have eq1 : pCompared rec true src σ = .ok (pNode σ4 (8, if b = true then 1 else 0, [], none, vNull, [x], (psA σ).length)) := by rw [eq0, e3, ok_bind, e4]; rfl
            have xc := x_compared hx σ g _ eq1
            have lt4 : jsz h ≤ jsz h4 := n14.2.1.2.2.2.1.1
            have l3 := n3.2.2.2.2.2
            refine JW.inv fun hI5 => useV0 (w_missing n15 hI5 hI s0 (Raw.new hI4) (by omega) xc.1 hv1 (by split <;> omega) (by cases b <;> rfl) (by omega)) ?_
            rintro h6 hI6 _ n6
            have lp6 : lp (pNode σ4 (8, if b = true then 1 else 0, [], none, vNull, [x], (psA σ).length)).2 = lp σ4 := lp_eq rfl
            exact endR fun _ _ _ => ⟨(pNode σ4 (8, if b = true then 1 else 0, [], none, vNull, [x], (psA σ).length)).1, (pNode σ4 (8, if b = true then 1 else 0, [], none, vNull, [x], (psA σ).length)).2, _, eq1, (rup_eq _ _ _).symm, n6.mono (by omega) (by omega), by omega⟩
          · rintro y4 h4 hI4 _ ⟨er, e4, n4⟩
            have l3 := n3.2.2.2.2.2
            exact endX fun _ _ => ⟨er, by rw [eq0, e3, ok_bind, e4]; rfl, n13.err (by omega) (by omega) n4⟩
        · rintro y3 h3 hI3 _ ⟨er, e3, n3⟩
          exact endX fun _ _ => ⟨er, by rw [eq0, e3]; rfl, n12.err (by omega) (by omega) n3⟩
      | false =>
        obtain ⟨is, rfl, rfl⟩ := f2 rfl
        refine ⟨fun _ => ⟨n1.1.sg, ?_⟩, fun z => absurd rfl z⟩
        rw [n1.1.1.2.2.1, n1.1.2.1.2.2.1]
        refine ⟨fun z => ?_, fun z => ?_⟩
        · rw [kcon_sign hI1 n1.1.k7] at z
          refine useR0 (k_comparison n1.1.2.1.2.2.2.1 (by omega)) ?_
          rintro v3 h3 hI3 _ ⟨hv3, hh⟩
          have n3 := n1.hs hI1 hh
          have pc : pCmp σ2 = cmpW (tkW (psT σ2)) := by rw [pCmp_eq, if_pos z]
          rcases ec : cmpW (tkW (psT σ2)) with _ | kk
          · have : v3 = 0 := by rw [hv3]; unfold cmpR; rw [ec]
            rw [this]
            exact none74 h3 hI3 n3 (pc.trans ec) is
          · have hk5 : kk ≤ 5 := by
              unfold cmpW at ec
              repeat' split at ec
              all_goals first | (cases ec; omega) | cases ec
            have hv3' : v3 = jcs D (364 + kk) := by rw [hv3]; unfold cmpR; rw [ec]
            have v30 : v3 ≠ 0 := by
              rw [hv3']
              rcases (show kk = 0 ∨ kk = 1 ∨ kk = 2 ∨ kk = 3 ∨ kk = 4 ∨ kk = 5 by omega) with rfl | rfl | rfl | rfl | rfl | rfl <;> exact cst0 hI3 (by decide)
            refine ⟨fun y => absurd y v30, fun _ => ⟨n3.1.1.2.1, n3.1.sg, ?_⟩⟩
            rw [n3.1.1.2.2.1]
            have eq0 : pCompared rec true src σ = (pNext true src σ2 >>= fun q => pSums rec true src q.2 >>= fun r => .ok (pNode r.2 (9, kk, [], none, vNull, [x, r.1], (psA σ).length))) := by
              rw [eqC]; unfold cmR
              rw [pc, ec]
            refine useV (w_next n3.1 (by omega) (by omega)) ?_ ?_
            · rintro h4 hI4 _ ⟨σ4, e4, n4, l4, q4⟩ r5 h5 rfl rfl
              have n34 := n3.tr n4
              have n35 := n34.nO (kk := 27) (N := 5) hI4 hI s0 rfl
              have o4 : psO σ4 = psO σ2 := n4.2.2.2.2.1.1
              refine JW.inv fun hI5 => useR (hsm σ4 ρ1 _ e n35.1 (by omega) (by omega)) ?_ ?_
              · rintro v6 h6 hI6 _ ⟨y, σ6, ρ6, e6, hv6, n6, l6⟩
                have n36 := n35.tr n6
                have w6 := n6.raw n35.1 hI5 (Raw.new hI4) (by decide)
                have eq1 : pCompared rec true src σ = .ok (pNode σ6 (9, kk, [], none, vNull, [x, y], (psA σ).length)) := by rw [eq0, e4, ok_bind, e6]; rfl
                have xc := x_compared hx σ g _ eq1
                have lt4 : jsz h ≤ jsz h4 := n34.2.1.2.2.2.1.1
                have x4 : x < (psA σ4).length := Nat.lt_of_lt_of_le hxl n4.2.2.2.2.1.len
                refine useV0 (w_pair n36 hI6 hI s0 w6 (by omega) (Or.inr (Or.inl rfl)) xc.1 (hv1.trans (n6.2.2.1 x x4).symm) hv6 hv3' (by omega)) ?_
                rintro h7 hI7 _ n7
                have lp7 : lp (pNode σ6 (9, kk, [], none, vNull, [x, y], (psA σ).length)).2 = lp σ6 := lp_eq rfl
                exact endR fun _ _ _ => ⟨(pNode σ6 (9, kk, [], none, vNull, [x, y], (psA σ).length)).1, (pNode σ6 (9, kk, [], none, vNull, [x, y], (psA σ).length)).2, _, eq1, (rup_eq _ _ _).symm, n7.mono (by omega) (by omega), by omega⟩
              · rintro y6 h6 hI6 _ ⟨er, e6, n6⟩
                exact endX fun _ _ => ⟨er, by rw [eq0, e4, ok_bind, e6]; rfl, n35.err (by omega) (by omega) n6⟩
            · rintro y4 h4 hI4 _ ⟨er, e4, n4⟩
              exact endX fun _ _ => ⟨er, by rw [eq0, e4]; rfl, n3.err (Int.le_refl _) (Int.le_refl _) n4⟩
        · rw [kcon_sign hI1 n1.1.k7] at z
          exact none74 h2 hI1 n1 (by rw [pCmp_eq, if_neg z]) is
    · rintro y2 h2 hI2 _ ⟨er, e2, n2⟩
      obtain ⟨is, en⟩ := takeE e2
      refine endX fun _ _ => ⟨er, ?_, n1.err (Int.le_refl _) (Int.le_refl _) n2⟩
      rw [eqC]; unfold cmR
      rw [cmp_none is (by decide +kernel) wt1]
      show (if pIs σ1 "is" = true then _ else _) = _
      rw [if_pos is, en]; rfl
  · rintro y1 h1 hI1 _ ⟨er, e1, n1⟩
    exact endX fun _ _ => ⟨er, by rw [cmpd_eq, e1]; rfl, n1⟩
theorem w_nots {rec : PS → Except Nat (Nat × PS)} {N : Nat} (hx : ∀ σ, Xz src (3 * (30 - psO σ)) σ (rec σ)) (hp : CC D p s a base src rec N) : ∀ f σ ρ h d, PsR D p s a base src h σ ρ → N ≤ psO σ → 31 ≤ f + psO σ → 11 * (30 - psO σ) + 29 ≤ d →
    cX17_nots D d p h (pR D h 55 (XP D p s a base src h σ ρ (pNots rec true src f σ)) (XE p s src h σ (pNots rec true src f σ)))
  | 0, σ, ρ, h, d, k, _, hf, _ => by
    have := k.2.2.2.2.2.1.2.2
    exfalso; omega
  | f + 1, σ, ρ, h, d, k, hN, hf, hd => by
    obtain ⟨e, rfl, he⟩ := dsucc hd
    refine JW.inv fun hI => t_X17_nots ⟨k.1.2.1, k.sg, ?_⟩
    rw [k.1.2.2.1]
    refine useI0 (w_isWord k "not" (by decide +kernel) (by omega)) ?_
    rintro v h1 _ _ ⟨rfl, rfl⟩
    by_cases hi : pIs σ "not" = true
    · rw [if_pos hi]
      refine ⟨fun _ => ?_, fun z => absurd z (by decide)⟩
      have eq0 : pNots rec true src (f + 1) σ = (pEnter σ >>= fun q => pNext true src q.2 >>= fun q => pNots rec true src f q.2 >>= fun q => .ok (pNode (pLeave q.2) (12, 0, [], none, vNull, [q.1], (psA σ).length))) := by
        conv => lhs; unfold pNots
        dsimp only
        rw [if_neg (by rw [hi]; simp)]
      refine useV (w_enter k (by omega)) ?_ ?_
      · rintro h2 hI2 _ ⟨e1, h30, k2, f2, s2⟩
        have g30 := k.2.2.2.2.2.1.2.2
        refine ⟨k2.sg, ?_⟩
        rw [k2.1.2.2.1]
        refine useV (w_next k2 (is_k (σ := σ) hi) (by omega)) ?_ ?_
        · rintro h3 hI3 _ ⟨σ3, e3, n3, l3, q3⟩ r4 h4 rfl rfl
          have k3 := n3.1
          have n4 := n3.pok.nO (kk := 26) (N := 4) hI3 hI2 (POk.s0 k2 hI2) rfl
          have hI4 : JInv D (nwo h3 26 4) → True := fun _ => trivial
          refine JW.inv fun hI4 => ?_
          have w4 : Raw (nwo h3 26 4) (jsz h3 + 1) 26 := Raw.new hI3
          have o3 : psO σ3 = psO σ + 1 := by unfold psO; rw [q3]; rfl
          refine useR (w_nots hx hp f σ3 ρ _ _ n4.1 (by omega) (by omega) (by omega)) ?_ ?_
          · rintro v5 h5 hI5 _ ⟨i, σ5, ρ5, e5, rfl, n5, l5⟩
            have w5 := n5.raw n4.1 hI4 w4 (by decide)
            have eq1 : pNots rec true src (f + 1) σ = .ok (pNode (pLeave σ5) (12, 0, [], none, vNull, [i], (psA σ).length)) := by
              rw [eq0, e1, ok_bind, e3, ok_bind, e5]; rfl
            have xz := x_nots hx (f + 1) σ k.2.2.2.2.2.1 _ eq1
            have lt3 : jsz h2 ≤ jsz h3 := n3.2.1.2.2.2.1.1
            -- the node is made one level down, then the level is left
            have n25 := n4.tr n5
            have hg5 : Gd src (pNode σ5 (12, 0, [], none, vNull, [i], (psA σ).length)).2 := by
              obtain ⟨x1, x2, _⟩ := xz
              exact ⟨x1.1, x1.2.1, n5.1.2.2.2.2.2.1.2.2⟩
            refine useV0 (w_turned n25 hI5 hI2 (POk.s0 k2 hI2) w5 (by omega) (Or.inl rfl) hg5 rfl rfl (by omega)) ?_
            rintro h6 hI6 _ n6 h7 rfl
            have k6 := n6.1
            have o6 : psO (pNode σ5 (12, 0, [], none, vNull, [i], (psA σ).length)).2 = psO σ + 1 := n6.2.2.2.2.1.1
            have k7 : PsR D p s a base src (wfi h6 80 p (jfi h6 80 p - 1)) (pNode (pLeave σ5) (12, 0, [], none, vNull, [i], (psA σ).length)).2 (rup ρ5 (psA σ5).length (jsz h3 + 1)) := by
              rw [k6.1.2.2.2.1, o6, nI_pred]
              refine k6.set hI6 (Or.inl rfl) rfl rfl ?_ ?_ ?_ xz.1 k6.2.2.2.2.2.2.1 k6.2.2.2.2.2.2.2.1
              · simp only [jkd_wfi, jln_wfi, jfi_wfi, jfl_wfi, jfr_wfi, jai_wfi, jal_wfi, jar_wfi, jsz_wfi, jus_wfi, jkd_wfl, jln_wfl, jfi_wfl, jfl_wfl, jfr_wfl, jai_wfl, jal_wfl, jar_wfl, jsz_wfl, jus_wfl, jkd_wfr, jln_wfr, jfi_wfr, jfl_wfr, jfr_wfr, jai_wfr, jal_wfr, jar_wfr, jsz_wfr, jus_wfr, jkd_wai, jln_wai, jfi_wai, jfl_wai, jfr_wai, jai_wai, jal_wai, jar_wai, jsz_wai, jus_wai, jkd_wal, jln_wal, jfi_wal, jfl_wal, jfr_wal, jai_wal, jal_wal, jar_wal, jsz_wal, jus_wal, jkd_war, jln_war, jfi_war, jfl_war, jfr_war, jai_war, jal_war, jar_war, jsz_war, jus_war, jkd_nwo, jln_nwo, jfi_nwo, jfl_nwo, jfr_nwo, jai_nwo, jal_nwo, jar_nwo, jsz_nwo, jus_nwo, jkd_nwa, jln_nwa, jfi_nwa, jfl_nwa, jfr_nwa, jai_nwa, jal_nwa, jar_nwa, jsz_nwa, jus_nwa, jkd_cpa, jln_cpa, jfi_cpa, jfl_cpa, jfr_cpa, jai_cpa, jal_cpa, jar_cpa, jsz_cpa, jus_cpa, and_self, if_true]
                rw [xz.2.1.1]
              · simp only [jkd_wfi, jln_wfi, jfi_wfi, jfl_wfi, jfr_wfi, jai_wfi, jal_wfi, jar_wfi, jsz_wfi, jus_wfi, jkd_wfl, jln_wfl, jfi_wfl, jfl_wfl, jfr_wfl, jai_wfl, jal_wfl, jar_wfl, jsz_wfl, jus_wfl, jkd_wfr, jln_wfr, jfi_wfr, jfl_wfr, jfr_wfr, jai_wfr, jal_wfr, jar_wfr, jsz_wfr, jus_wfr, jkd_wai, jln_wai, jfi_wai, jfl_wai, jfr_wai, jai_wai, jal_wai, jar_wai, jsz_wai, jus_wai, jkd_wal, jln_wal, jfi_wal, jfl_wal, jfr_wal, jai_wal, jal_wal, jar_wal, jsz_wal, jus_wal, jkd_war, jln_war, jfi_war, jfl_war, jfr_war, jai_war, jal_war, jar_war, jsz_war, jus_war, jkd_nwo, jln_nwo, jfi_nwo, jfl_nwo, jfr_nwo, jai_nwo, jal_nwo, jar_nwo, jsz_nwo, jus_nwo, jkd_nwa, jln_nwa, jfi_nwa, jfl_nwa, jfr_nwa, jai_nwa, jal_nwa, jar_nwa, jsz_nwa, jus_nwa, jkd_cpa, jln_cpa, jfi_cpa, jfl_cpa, jfr_cpa, jai_cpa, jal_cpa, jar_cpa, jsz_cpa, jus_cpa, Nat.reduceEqDiff, false_and, if_false]; exact k6.1.2.2.2.2.1
              · simp only [jkd_wfi, jln_wfi, jfi_wfi, jfl_wfi, jfr_wfi, jai_wfi, jal_wfi, jar_wfi, jsz_wfi, jus_wfi, jkd_wfl, jln_wfl, jfi_wfl, jfl_wfl, jfr_wfl, jai_wfl, jal_wfl, jar_wfl, jsz_wfl, jus_wfl, jkd_wfr, jln_wfr, jfi_wfr, jfl_wfr, jfr_wfr, jai_wfr, jal_wfr, jar_wfr, jsz_wfr, jus_wfr, jkd_wai, jln_wai, jfi_wai, jfl_wai, jfr_wai, jai_wai, jal_wai, jar_wai, jsz_wai, jus_wai, jkd_wal, jln_wal, jfi_wal, jfl_wal, jfr_wal, jai_wal, jal_wal, jar_wal, jsz_wal, jus_wal, jkd_war, jln_war, jfi_war, jfl_war, jfr_war, jai_war, jal_war, jar_war, jsz_war, jus_war, jkd_nwo, jln_nwo, jfi_nwo, jfl_nwo, jfr_nwo, jai_nwo, jal_nwo, jar_nwo, jsz_nwo, jus_nwo, jkd_nwa, jln_nwa, jfi_nwa, jfl_nwa, jfr_nwa, jai_nwa, jal_nwa, jar_nwa, jsz_nwa, jus_nwa, jkd_cpa, jln_cpa, jfi_cpa, jfl_cpa, jfr_cpa, jai_cpa, jal_cpa, jar_cpa, jsz_cpa, jus_cpa, Nat.reduceEqDiff, false_and, if_false]; exact k6.1.2.2.2.2.2
            have lpe : lp (pNode (pLeave σ5) (12, 0, [], none, vNull, [i], (psA σ).length)).2 = lp σ5 := lp_eq rfl
            have lp2 : lp ((psT σ, psO σ + 1, σ.2.2) : PS) = lp σ := lp_eq rfl
            have hln : (psA σ).length ≤ (psA σ5).length := n25.2.2.2.2.1.len
            refine endR fun _ _ _ => ⟨(pNode (pLeave σ5) (12, 0, [], none, vNull, [i], (psA σ).length)).1, (pNode (pLeave σ5) (12, 0, [], none, vNull, [i], (psA σ).length)).2, rup ρ5 (psA σ5).length (jsz h3 + 1), eq1, (rup_eq _ _ _).symm, ⟨k7, (f2.tr n6.2.1).tr (PFr.fi _ hI6 k6.1.1), n25.2.2.1.tr RX.up hln, ((s2.tr n6.2.2.2.1).tr Sp.fi).mono ?_ ?_, xz.2.1, ?_⟩, ?_⟩
            · rw [lpe]; omega
            · rw [lpe]; omega
            · rw [lpe]; omega
            · rw [lpe]; omega
          · rintro y h5 hI5 _ ⟨er, e5, n5⟩
            refine endX fun _ _ => ⟨er, by rw [eq0, e1, ok_bind, e3, ok_bind, e5]; rfl, ?_⟩
            have lp2 : lp ((psT σ, psO σ + 1, σ.2.2) : PS) = lp σ := lp_eq rfl
            have := n4.err (by omega) (by omega) n5
            exact ⟨this.1, f2.tr this.2.1, (s2.tr this.2.2.1).mono (by omega) (by omega), by have := this.2.2.2; omega⟩
        · rintro y h3 hI3 _ ⟨er, e3, n3⟩
          refine endX fun _ _ => ⟨er, by rw [eq0, e1, ok_bind, e3]; rfl, ?_⟩
          have lp2 : lp ((psT σ, psO σ + 1, σ.2.2) : PS) = lp σ := lp_eq rfl
          have n3 := n3.up
          exact ⟨n3.1, f2.tr n3.2.1, (s2.tr n3.2.2.1).mono (by omega) (by omega), by have := n3.2.2.2; omega⟩
      · rintro y h2 hI2 _ ⟨er, e1, n1⟩
        exact endX fun _ _ => ⟨er, by rw [eq0, e1]; rfl, n1.up⟩
    · rw [if_neg hi]
      refine ⟨fun z => absurd rfl z, fun _ => ?_⟩
      have eq0 : pNots rec true src (f + 1) σ = pCompared rec true src σ := by
        conv => lhs; unfold pNots
        dsimp only
        rw [if_pos (by rw [Bool.eq_false_iff.mpr hi]; rfl)]
      rw [eq0]
      refine useR (hp σ ρ _ e k hN (by omega)) ?_ ?_
      · rintro v2 h2 hI2 _ x
        exact endR fun _ _ _ => x
      · rintro y h2 hI2 _ x
        exact endX fun _ _ => x
end
