/-! expressions of the component: primary ones, and the whole -/
theorem k_ord {D : JD} {h : JH} (hI : JInv D h) {j : Nat} (hj : (Nat.ble j 372 && jenm j) = true) : jfi h 327 (jcs D j) = jord j ∧ jcs D j ≠ 0 := by
  simp only [Bool.and_eq_true, Nat.ble_eq] at hj
  have c3 := hI.2.2.2.2.2.2.2.2.2 j (by omega) hj.2
  have c1 := hI.2.2.2.2.2.2.2.1 j (by omega)
  refine ⟨?_, c3.1⟩
  rw [((hI.2.2.2.2.2.1 _ c1.1).2.2.1 327).1]
  exact c3.2.2.1
section
variable {D : JD} {p s a base : Nat} {src : Str} {h h' h'' h0 : JH} {σ σ' σ'' σ0 : PS} {ρ ρ' ρ'' ρ0 : Nat → Nat} {n m n' m' : Int} {d c r : Nat}
theorem is_w6 {w : String} (k6 : tkK (psT σ) = 6) (hw : sReserved.contains (sStr w) = true) (k : WT src σ) : pIs σ w = false := by
  refine Bool.eq_false_iff.mpr fun z => ?_
  rcases ((is_word hw k).mpr z).1 with y | y <;> omega
theorem w_param {v : Int32} {kk lo : Nat} (ok : POk D p s a base src h0 h σ0 σ ρ0 ρ n m) (hI : JInv D h) (hI0 : JInv D h0) (hs : s ≤ jsz h0) (w : Raw h r 20) (hr : jsz h0 < r) (g : Gd src (pNode σ (1, kk, [], none, vNull, [], lo)).2) (hv : v = nI (kk + 1)) (hd : 3 ≤ d) :
    cX25_init D d r v h (pV D h (fun h' => POk D p s a base src h0 h' σ0 (pNode σ (1, kk, [], none, vNull, [], lo)).2 ρ0 (rup ρ (psA σ).length r) (n + 2) (m + 45)) no) := by
  refine JW.up (n := 3) (fun d => useV0 (k_paramInit (d := d) w) ?_) hd
  rintro h1 hI1 _ ⟨mk, e1, e4⟩
  exact (ok.mkL hI hI0 hs w (by decide) hr (MkL.of hI mk ok.1.2.2.2.1 (by rw [w.2.2.1]; decide)) fun q => Or.inl (e4 q)).node (nod_param mk w (e1.trans hv)) g (ok.1.rawNe w)
theorem w_primary {N : Nat} {rec : PS → Except Nat (Nat × PS)} (hx : ∀ σ, Xz src (3 * (30 - psO σ)) σ (rec σ)) (hr : CXr D p s a base src rec N) : CP D p s a base src rec N := by
  intro σ ρ h d k hN hd
  obtain ⟨e, rfl, he⟩ := dsucc hd
  have g := k.2.2.2.2.2.1
  have hG : ∀ i σ', pPrimary rec true src σ = .ok (i, σ') → Gd src σ' := fun i σ' ee => (x_primary (K := 3 * (30 - psO σ)) (o := psO σ) (fun τ ho => by rw [← ho]; exact hx τ) σ rfl g _ ee).1
  refine JW.inv fun hI => t_X17_primary ?_
  have s0 := POk.s0 k hI
  rintro r1 h1 rfl rfl
  refine JW.up (n := 1) (fun d => useV0 (k_cInitE (d := d) (Nat.succ_ne_zero _)) ?_) (by omega)
  intro h2 hI2 _ eh2
  obtain ⟨n2, hc, hkc, htc⟩ := POk.newC k hI
  have eh : h2 = hC D h := eh2
  rw [← eh] at n2 hc hkc htc
  have k2 := n2.1
  have hk7 := k2.k7
  have wt := k2.2.2.2.2.2.1.1
  obtain ⟨qq, hq⟩ := wt
  have tv := tok_vals src qq
  rw [← hq] at tv
  refine ⟨k2.1.2.1, k2.sg, ?_⟩
  rw [k2.1.2.2.1, k2.2.1.2.2.1]
  have ordk : ∀ (t : Nat) (j : Nat) (v : Int32), tkK (psT σ) = t → kcon D t = jcs D j → (Nat.ble j 372 && jenm j) = true → jord j = v → jfi h2 327 (kcon D (tkK (psT σ))) = v ∧ kcon D (tkK (psT σ)) ≠ 0 := by
    intro t j v e1 e2 e3 e4
    have := k_ord hI2 e3
    rw [e1, e2, ← e4]; exact this
  have k0n : kcon D (tkK (psT σ)) ≠ 0 := by
    rcases (show tkK (psT σ) = 0 ∨ tkK (psT σ) = 1 ∨ tkK (psT σ) = 2 ∨ tkK (psT σ) = 3 ∨ tkK (psT σ) = 4 ∨ tkK (psT σ) = 5 ∨ tkK (psT σ) = 6 by omega) with z | z | z | z | z | z | z
    · exact (ordk 0 350 5 z rfl (by decide) (by decide)).2
    · exact (ordk 1 351 0 z rfl (by decide) (by decide)).2
    · exact (ordk 2 351 0 z rfl (by decide) (by decide)).2
    · exact (ordk 3 352 1 z rfl (by decide) (by decide)).2
    · exact (ordk 4 353 2 z rfl (by decide) (by decide)).2
    · exact (ordk 5 354 3 z rfl (by decide) (by decide)).2
    · exact (ordk 6 355 4 z rfl (by decide) (by decide)).2
  refine ⟨k0n, JW.up (n := 1) (fun d => t_J11_ordinal ⟨k0n, endI fun _ _ => ?_⟩) (by omega)⟩
  have dflt : tkK (psT σ) = 0 ∨ tkK (psT σ) = 1 ∨ tkK (psT σ) = 2 → cX17_named D e p (jsz h + 1) h2 (pR D h2 55 (XP D p s a base src h σ ρ (pPrimary rec true src σ)) (XE p s src h σ (pPrimary rec true src σ))) := fun z =>
    w_named hx hr n2 hI s0 hc hkc (Nat.lt_succ_self _) htc (by omega) (by omega) (by omega) (Bool.eq_false_iff.mpr fun y => by
      have := (is_sign (w := "(") (by decide +kernel) ⟨qq, hq⟩).mpr y
      omega) hN (by omega)
  have dflt' : tkK (psT σ) = 0 ∨ tkK (psT σ) = 1 ∨ tkK (psT σ) = 2 → cX17_named D e p (jsz h + 1) h2 (pR D h2 55 (fun v_56 h_54 => pR D h 55 (XP D p s a base src h σ ρ (pPrimary rec true src σ)) (XE p s src h σ (pPrimary rec true src σ)) (.inl (some (vR 55 v_56))) h_54) (jth (pR D h 55 (XP D p s a base src h σ ρ (pPrimary rec true src σ)) (XE p s src h σ (pPrimary rec true src σ))))) := fun z => by
    refine useR (dflt z) ?_ ?_
    · rintro v3 h3 _ _ x
      exact endR fun _ _ _ => x
    · rintro y3 h3 _ _ x
      exact endX fun _ _ => x
  rcases (show tkK (psT σ) = 0 ∨ tkK (psT σ) = 1 ∨ tkK (psT σ) = 2 ∨ tkK (psT σ) = 3 ∨ tkK (psT σ) = 4 ∨ tkK (psT σ) = 5 ∨ tkK (psT σ) = 6 by omega) with z | z | z | z | z | z | z
  · rw [(ordk 0 350 5 z rfl (by decide) (by decide)).1]
    exact ⟨fun y => absurd y (by decide), fun y => absurd y (by decide), fun y => absurd y (by decide), fun y => absurd y (by decide), fun _ _ _ _ => dflt' (by omega)⟩
  · rw [(ordk 1 351 0 z rfl (by decide) (by decide)).1]
    exact ⟨fun y => absurd y (by decide), fun y => absurd y (by decide), fun y => absurd y (by decide), fun y => absurd y (by decide), fun _ _ _ _ => dflt' (by omega)⟩
  · rw [(ordk 2 351 0 z rfl (by decide) (by decide)).1]
    exact ⟨fun y => absurd y (by decide), fun y => absurd y (by decide), fun y => absurd y (by decide), fun y => absurd y (by decide), fun _ _ _ _ => dflt' (by omega)⟩
  · rw [(ordk 3 352 1 z rfl (by decide) (by decide)).1]
    refine ⟨fun _ => ⟨k2.sg, ?_⟩, fun y => absurd y (by decide), fun y => absurd y (by decide), fun y => absurd y (by decide), fun y => absurd rfl y⟩
    rw [k2.1.2.2.1, k2.2.1.2.2.2.2.1 (Or.inl z)]
    have eqp : pPrimary rec true src σ = ltS src (psA σ).length (vNum (tkN (psT σ))) σ := by
      unfold pPrimary
      dsimp only
      rw [if_pos (by simpa using z)]; rfl
    rw [eqp] at hG ⊢
    have t3 := tv.1 z
    refine JW.up (n := 8) (fun d => useR (k_cNumber (d := d) hc.1) ?_ ?_) (by omega)
    · rintro v3 h3 hI3 _ ⟨_, _, c3, f3⟩
      have n3 := n2.cel hI2 hI3 hI f3 hkc (Nat.lt_succ_self _) (Or.inl htc) c3.1
      exact w_lit (d := e) _ n3 hI3 hI s0 c3 (by rw [f3.2.2.2.2.2.2.1]; exact hkc) (by omega) (by omega) hG (fun w h' _ x => endR fun _ _ _ => x) (fun y h' _ x => endX fun _ _ => x)
    · rintro y3 h3 hI3 _ ⟨x3, _⟩
      exfalso
      unfold xNum at x3
      rw [if_pos] at x3
      · cases x3
      · simp only [Bool.and_eq_true, decide_eq_true_eq]
        exact ⟨t3.2, Int64.le_trans (by decide) t3.1⟩
  · rw [(ordk 4 353 2 z rfl (by decide) (by decide)).1]
    refine ⟨fun y => absurd y (by decide), fun _ => ⟨k2.sg, ?_⟩, fun y => absurd y (by decide), fun y => absurd y (by decide), fun _ y => absurd rfl y⟩
    rw [k2.1.2.2.1]
    have eqp : pPrimary rec true src σ = ltS src (psA σ).length (vTxt (tkS (psT σ))) σ := by
      unfold pPrimary
      dsimp only
      rw [if_neg (by rw [z]; decide), if_pos (by simpa using z)]; rfl
    rw [eqp] at hG ⊢
    refine JW.up (n := 9) (fun d => useR0 (k_cCopy (d := d) hc.1 (k2.2.1.2.2.2.2.2.2.1 z) k2.2.2.2.1.tx) ?_) (by omega)
    rintro v3 h3 hI3 _ ⟨_, c3, f3⟩
    have n3 := n2.cel hI2 hI3 hI f3 hkc (Nat.lt_succ_self _) (Or.inl htc) c3.1
    exact w_lit (d := e) _ n3 hI3 hI s0 c3 (by rw [f3.2.2.2.2.2.2.1]; exact hkc) (by omega) (by omega) hG (fun w h' _ x => endR fun _ _ _ => x) (fun y h' _ x => endX fun _ _ => x)
  · rw [(ordk 5 354 3 z rfl (by decide) (by decide)).1]
    refine ⟨fun y => absurd y (by decide), fun y => absurd y (by decide), fun _ => ⟨k2.sg, ?_⟩, fun y => absurd y (by decide), fun _ _ y => absurd rfl y⟩
    rw [k2.1.2.2.1, k2.2.1.2.2.2.2.1 (Or.inr z)]
    have t5 := tv.2.2 z
    have eqp : pPrimary rec true src σ = ((pNext true src (psT σ, psO σ, psN σ, max (psP σ) (tkN (psT σ)).toNatClampNeg, psA σ)).map fun q => pNode q.2 (1, (tkN (psT σ)).toNatClampNeg - 1, [], none, vNull, [], (psA σ).length)) := by
      unfold pPrimary
      dsimp only
      rw [if_neg (by rw [z]; decide), if_neg (by rw [z]; decide), if_pos (by simpa using z)]
    have ev : Int64.toInt32 (tkN (psT σ)) = nI (tkN (psT σ)).toNatClampNeg := by
      generalize tkN (psT σ) = N8 at t5
      have e8 : N8.toInt = (N8.toNatClampNeg : Int) := by
        have : N8.toNatClampNeg = N8.toInt.toNat := rfl
        omega
      refine Int32.toInt_inj.mp ?_
      rw [nI_toInt (by omega), Int64.toInt_toInt32, e8]
      exact Int.bmod_eq_of_le (by omega) (by omega)
    rw [ev]
    have hP := k2.2.2.2.2.2.2.2.1
    refine JW.up (n := 1) (fun d => useI0 (k_maxI (d := d)) ?_) (by omega)
    rintro v3 h3 hI3 _ ⟨hv3, rfl⟩ h4 rfl
    have em : v3 = nI (max (psP σ) (tkN (psT σ)).toNatClampNeg) := by
      rw [hv3, k2.1.2.2.2.2.2]
      by_cases y : psP σ < (tkN (psT σ)).toNatClampNeg
      · rw [if_pos ((nI_ltI (by omega) (by omega)).mpr y), Nat.max_eq_right (by omega)]
      · rw [if_neg fun w => y ((nI_ltI (by omega) (by omega)).mp w), Nat.max_eq_left (by omega)]
    rw [em]
    have k4 : PsR D p s a base src (wfi h3 82 p (nI (max (psP σ) (tkN (psT σ)).toNatClampNeg))) (psT σ, psO σ, psN σ, max (psP σ) (tkN (psT σ)).toNatClampNeg, psA σ) ρ := by
      refine k2.set hI2 (Or.inr (Or.inr rfl)) rfl rfl ?_ ?_ ?_ ⟨g.1, g.2⟩ k2.2.2.2.2.2.2.1 (Nat.max_le.mpr ⟨hP, t5.2⟩)
      · simp only [jkd_wfi, jln_wfi, jfi_wfi, jfl_wfi, jfr_wfi, jai_wfi, jal_wfi, jar_wfi, jsz_wfi, jus_wfi, jkd_wfl, jln_wfl, jfi_wfl, jfl_wfl, jfr_wfl, jai_wfl, jal_wfl, jar_wfl, jsz_wfl, jus_wfl, jkd_wfr, jln_wfr, jfi_wfr, jfl_wfr, jfr_wfr, jai_wfr, jal_wfr, jar_wfr, jsz_wfr, jus_wfr, jkd_wai, jln_wai, jfi_wai, jfl_wai, jfr_wai, jai_wai, jal_wai, jar_wai, jsz_wai, jus_wai, jkd_wal, jln_wal, jfi_wal, jfl_wal, jfr_wal, jai_wal, jal_wal, jar_wal, jsz_wal, jus_wal, jkd_war, jln_war, jfi_war, jfl_war, jfr_war, jai_war, jal_war, jar_war, jsz_war, jus_war, jkd_nwo, jln_nwo, jfi_nwo, jfl_nwo, jfr_nwo, jai_nwo, jal_nwo, jar_nwo, jsz_nwo, jus_nwo, jkd_nwa, jln_nwa, jfi_nwa, jfl_nwa, jfr_nwa, jai_nwa, jal_nwa, jar_nwa, jsz_nwa, jus_nwa, jkd_cpa, jln_cpa, jfi_cpa, jfl_cpa, jfr_cpa, jai_cpa, jal_cpa, jar_cpa, jsz_cpa, jus_cpa, Nat.reduceEqDiff, false_and, if_false]; exact k2.1.2.2.2.1
      · simp only [jkd_wfi, jln_wfi, jfi_wfi, jfl_wfi, jfr_wfi, jai_wfi, jal_wfi, jar_wfi, jsz_wfi, jus_wfi, jkd_wfl, jln_wfl, jfi_wfl, jfl_wfl, jfr_wfl, jai_wfl, jal_wfl, jar_wfl, jsz_wfl, jus_wfl, jkd_wfr, jln_wfr, jfi_wfr, jfl_wfr, jfr_wfr, jai_wfr, jal_wfr, jar_wfr, jsz_wfr, jus_wfr, jkd_wai, jln_wai, jfi_wai, jfl_wai, jfr_wai, jai_wai, jal_wai, jar_wai, jsz_wai, jus_wai, jkd_wal, jln_wal, jfi_wal, jfl_wal, jfr_wal, jai_wal, jal_wal, jar_wal, jsz_wal, jus_wal, jkd_war, jln_war, jfi_war, jfl_war, jfr_war, jai_war, jal_war, jar_war, jsz_war, jus_war, jkd_nwo, jln_nwo, jfi_nwo, jfl_nwo, jfr_nwo, jai_nwo, jal_nwo, jar_nwo, jsz_nwo, jus_nwo, jkd_nwa, jln_nwa, jfi_nwa, jfl_nwa, jfr_nwa, jai_nwa, jal_nwa, jar_nwa, jsz_nwa, jus_nwa, jkd_cpa, jln_cpa, jfi_cpa, jfl_cpa, jfr_cpa, jai_cpa, jal_cpa, jar_cpa, jsz_cpa, jus_cpa, Nat.reduceEqDiff, false_and, if_false]; exact k2.1.2.2.2.2.1
      · simp only [jkd_wfi, jln_wfi, jfi_wfi, jfl_wfi, jfr_wfi, jai_wfi, jal_wfi, jar_wfi, jsz_wfi, jus_wfi, jkd_wfl, jln_wfl, jfi_wfl, jfl_wfl, jfr_wfl, jai_wfl, jal_wfl, jar_wfl, jsz_wfl, jus_wfl, jkd_wfr, jln_wfr, jfi_wfr, jfl_wfr, jfr_wfr, jai_wfr, jal_wfr, jar_wfr, jsz_wfr, jus_wfr, jkd_wai, jln_wai, jfi_wai, jfl_wai, jfr_wai, jai_wai, jal_wai, jar_wai, jsz_wai, jus_wai, jkd_wal, jln_wal, jfi_wal, jfl_wal, jfr_wal, jai_wal, jal_wal, jar_wal, jsz_wal, jus_wal, jkd_war, jln_war, jfi_war, jfl_war, jfr_war, jai_war, jal_war, jar_war, jsz_war, jus_war, jkd_nwo, jln_nwo, jfi_nwo, jfl_nwo, jfr_nwo, jai_nwo, jal_nwo, jar_nwo, jsz_nwo, jus_nwo, jkd_nwa, jln_nwa, jfi_nwa, jfl_nwa, jfr_nwa, jai_nwa, jal_nwa, jar_nwa, jsz_nwa, jus_nwa, jkd_cpa, jln_cpa, jfi_cpa, jfl_cpa, jfr_cpa, jai_cpa, jal_cpa, jar_cpa, jsz_cpa, jus_cpa, and_self, if_true]; rfl
    have n4 : POk D p s a base src h (wfi h3 82 p (nI (max (psP σ) (tkN (psT σ)).toNatClampNeg))) σ (psT σ, psO σ, psN σ, max (psP σ) (tkN (psT σ)).toNatClampNeg, psA σ) ρ ρ 2 45 := ⟨k4, n2.2.1.tr (PFr.fi _ hI2 k2.1.1), RX.rf _ _, (n2.2.2.2.1.tr Sp.fi).mono (by omega) (by omega), ⟨rfl, Nat.le_refl _, fun y => y, Nat.le_max_left _ _, fun y => Nat.max_le.mpr ⟨y, t5.2⟩, [], (List.append_nil _).symm⟩, Int.le_refl _⟩
    refine ⟨k4.sg, ?_⟩
    rw [k4.1.2.2.1]
    have lp4 : lp ((psT σ, psO σ, psN σ, max (psP σ) (tkN (psT σ)).toNatClampNeg, psA σ) : PS) = lp σ := lp_eq rfl
    refine useV (w_next k4 (show tkK (psT σ) ≠ 0 by omega) (by omega)) ?_ ?_
    · rintro h5 hI5 _ ⟨σ5, e5, n5, l5, q5⟩ r6 h6 rfl rfl
      have n45 := n4.tr n5
      have n6 := n45.nO (kk := 20) (N := 3) hI5 hI s0 rfl
      have hI6 := hI5.nO (k := 20) (N := 3) (by decide)
      have lt5 : jsz h ≤ jsz h5 := n45.2.1.2.2.2.1.1
      have eq1 : pPrimary rec true src σ = .ok (pNode σ5 (1, (tkN (psT σ)).toNatClampNeg - 1, [], none, vNull, [], (psA σ).length)) := by rw [eqp, e5]; rfl
      refine useV0 (w_param n6 hI6 hI s0 (Raw.new hI5) (by omega) (hG _ _ eq1) (by rw [Nat.sub_add_cancel t5.1]) (by omega)) ?_
      rintro h7 hI7 _ n7
      have lp7 : lp (pNode σ5 (1, (tkN (psT σ)).toNatClampNeg - 1, [], none, vNull, [], (psA σ).length)).2 = lp σ5 := lp_eq rfl
      exact endR fun _ _ _ => ⟨(pNode σ5 (1, (tkN (psT σ)).toNatClampNeg - 1, [], none, vNull, [], (psA σ).length)).1, (pNode σ5 (1, (tkN (psT σ)).toNatClampNeg - 1, [], none, vNull, [], (psA σ).length)).2, _, eq1, (rup_eq _ _ _).symm, n7.mono (by omega) (by omega), by omega⟩
    · rintro y5 h5 hI5 _ ⟨er, e5, n5⟩
      exact endX fun _ _ => ⟨er, by rw [eqp, e5]; rfl, n4.errC (by omega) (by omega) lp4 n5⟩
  · rw [(ordk 6 355 4 z rfl (by decide) (by decide)).1]
    refine ⟨fun y => absurd y (by decide), fun y => absurd y (by decide), fun y => absurd y (by decide), fun _ => ⟨k2.sg, ?_⟩, fun _ _ _ y => absurd rfl y⟩
    rw [k2.1.2.2.1]
    have wt' : WT src σ := ⟨qq, hq⟩
    have eqp : pPrimary rec true src σ = (pNeed true src "(" σ >>= fun q => rec q.2 >>= fun r => pNeed true src ")" r.2 >>= fun t => .ok (r.1, t.2)) := by
      unfold pPrimary
      dsimp only
      rw [if_neg (by rw [z]; decide), if_neg (by rw [z]; decide), if_neg (by rw [z]; decide), if_neg (by rw [is_w6 (w := "true") z (by decide +kernel) wt', is_w6 (w := "false") z (by decide +kernel) wt']; simp), if_neg (by rw [is_w6 (w := "null") z (by decide +kernel) wt']; simp), if_neg (by rw [is_w6 (w := "case") z (by decide +kernel) wt']; simp)]
      unfold pNeed
      by_cases ip : pIs σ "(" = true
      · rw [if_pos ip, if_pos ip]
      · rw [if_neg ip, if_neg ip]
        unfold pName
        rw [if_neg (by rw [z]; decide)]; rfl
    refine useV (w_need k2 "(" (by decide +kernel) (by omega)) ?_ ?_
    · rintro h3 hI3 _ ⟨σ3, e3, n3, l3, q3⟩
      have n23 := n2.tr n3
      have o3 : psO σ3 = psO σ := n3.2.2.2.2.1.1
      refine useR (hr σ3 ρ h3 e n3.1 (by omega) (by omega)) ?_ ?_
      · rintro v4 h4 hI4 _ ⟨x, σ4, ρ4, e4, hv4, n4, l4⟩
        have n24 := n23.tr n4
        refine ⟨n4.1.sg, ?_⟩
        rw [n4.1.1.2.2.1]
        refine useV (w_need n4.1 ")" (by decide +kernel) (by omega)) ?_ ?_
        · rintro h5 hI5 _ ⟨σ5, e5, n5, l5, q5⟩
          have n25 := n24.tr n5
          exact endR fun _ _ _ => ⟨x, σ5, ρ4, by rw [eqp, e3, ok_bind, e4, ok_bind, e5]; rfl, hv4, n25.mono (by omega) (by omega), by omega⟩
        · rintro y5 h5 hI5 _ ⟨er, e5, n5⟩
          exact endX fun _ _ => ⟨er, by rw [eqp, e3, ok_bind, e4, ok_bind, e5]; rfl, n24.err (by omega) (by omega) n5⟩
      · rintro y4 h4 hI4 _ ⟨er, e4, n4⟩
        exact endX fun _ _ => ⟨er, by rw [eqp, e3, ok_bind, e4]; rfl, n23.err (by omega) (by omega) n4⟩
    · rintro y3 h3 hI3 _ ⟨er, e3, n3⟩
      exact endX fun _ _ => ⟨er, by rw [eqp, e3]; rfl, n2.errC (by omega) (by omega) rfl n3⟩
theorem w_expr : ∀ n, CX D p s a base src n
  | 0 => fun σ ρ h d k hf _ => by
    have := k.2.2.2.2.2.1.2.2
    exfalso; omega
  | n + 1 => by
    intro σ ρ h d k hf hd
    have hx := x_expr (sx := true) (src := src) n
    have hr : CXr D p s a base src (pExpr true src n) (31 - n) := fun σ ρ h d k hN hd => w_expr n σ ρ h d k (by omega) hd
    have hp := w_primary hx hr
    have hm : CM D p s a base src (pExpr true src n) (31 - n) := fun σ ρ h d k hN hd => w_minus hx hp 31 σ ρ h d k hN (by omega) hd
    have ht : CT D p s a base src (pExpr true src n) (31 - n) := fun σ ρ h d k hN hd => w_prods hx hm σ ρ h d k hN hd
    have hs : CS D p s a base src (pExpr true src n) (31 - n) := fun σ ρ h d k hN hd => w_sumsX hx ht σ ρ h d k hN hd
    have hc := w_compared hx hr hs
    have hn : CN D p s a base src (pExpr true src n) (31 - n) := fun σ ρ h d k hN hd => w_nots hx hc 31 σ ρ h d k hN (by omega) hd
    have ha : CA D p s a base src (pExpr true src n) (31 - n) := fun σ ρ h d k hN hd => w_ands hx hn σ ρ h d k hN hd
    obtain ⟨e, rfl, he⟩ := dsucc hd
    have g := k.2.2.2.2.2.1
    refine JW.inv fun hI => t_X17_expression ⟨k.1.2.1, useV (w_enter k (by omega)) ?_ ?_⟩
    · rintro h1 hI1 _ ⟨e1, h30, k1, f1, s1⟩
      have g30 := g.2.2
      have eq0 : pExpr true src (n + 1) σ = (pAnds (pExpr true src n) true src (psT σ, psO σ + 1, σ.2.2) >>= fun q => pOrsL (pExpr true src n) true src (psA σ).length 302 q.1 q.2 >>= fun r => .ok (r.1, pLeave r.2)) := by
        conv => lhs; unfold pExpr
        rw [e1]; rfl
      have o1 : psO ((psT σ, psO σ + 1, σ.2.2) : PS) = psO σ + 1 := rfl
      have lp1 : lp ((psT σ, psO σ + 1, σ.2.2) : PS) = lp σ := lp_eq rfl
      refine useR (ha (psT σ, psO σ + 1, σ.2.2) ρ h1 e k1 (by omega) (by omega)) ?_ ?_
      · rintro v2 h2 hI2 _ ⟨x, σ2, ρ2, e2, hv2, n2, l2⟩
        have o2 : psO σ2 = psO σ + 1 := n2.2.2.2.2.1.1
        have xs := (x_ands hx _ k1.2.2.2.2.2.1 _ e2).2.2
        refine ⟨302, w_orsL hx ha (psA σ).length (psN σ) 302 σ2 ρ2 h2 x v2 e _ n2.1 hI2 (by rw [o2]; exact xs) hv2 (by omega) (by omega) (by omega) ?_ ?_⟩
        · rintro v3 h3 hI3 ⟨i, σ3, ρ3, e3, hv3, n3⟩ h4 rfl
          have k3 := n3.1
          have eq1 : pExpr true src (n + 1) σ = .ok (i, pLeave σ3) := by rw [eq0, e2, ok_bind, e3]; rfl
          have xz := x_expr (sx := true) (src := src) (n + 1) σ g _ eq1
          have o3 : psO σ3 = psO σ + 1 := by rw [n3.2.2.2.2.1.1, o2]
          have k4 : PsR D p s a base src (wfi h3 80 p (jfi h3 80 p - 1)) (pLeave σ3) ρ3 := by
            rw [k3.1.2.2.2.1, o3, nI_pred]
            refine k3.set hI3 (Or.inl rfl) rfl rfl ?_ ?_ ?_ xz.1 k3.2.2.2.2.2.2.1 k3.2.2.2.2.2.2.2.1
            · simp only [jkd_wfi, jln_wfi, jfi_wfi, jfl_wfi, jfr_wfi, jai_wfi, jal_wfi, jar_wfi, jsz_wfi, jus_wfi, jkd_wfl, jln_wfl, jfi_wfl, jfl_wfl, jfr_wfl, jai_wfl, jal_wfl, jar_wfl, jsz_wfl, jus_wfl, jkd_wfr, jln_wfr, jfi_wfr, jfl_wfr, jfr_wfr, jai_wfr, jal_wfr, jar_wfr, jsz_wfr, jus_wfr, jkd_wai, jln_wai, jfi_wai, jfl_wai, jfr_wai, jai_wai, jal_wai, jar_wai, jsz_wai, jus_wai, jkd_wal, jln_wal, jfi_wal, jfl_wal, jfr_wal, jai_wal, jal_wal, jar_wal, jsz_wal, jus_wal, jkd_war, jln_war, jfi_war, jfl_war, jfr_war, jai_war, jal_war, jar_war, jsz_war, jus_war, jkd_nwo, jln_nwo, jfi_nwo, jfl_nwo, jfr_nwo, jai_nwo, jal_nwo, jar_nwo, jsz_nwo, jus_nwo, jkd_nwa, jln_nwa, jfi_nwa, jfl_nwa, jfr_nwa, jai_nwa, jal_nwa, jar_nwa, jsz_nwa, jus_nwa, jkd_cpa, jln_cpa, jfi_cpa, jfl_cpa, jfr_cpa, jai_cpa, jal_cpa, jar_cpa, jsz_cpa, jus_cpa, and_self, if_true]
              rw [show psO (pLeave σ3) = psO σ from xz.2.1.1]
            · simp only [jkd_wfi, jln_wfi, jfi_wfi, jfl_wfi, jfr_wfi, jai_wfi, jal_wfi, jar_wfi, jsz_wfi, jus_wfi, jkd_wfl, jln_wfl, jfi_wfl, jfl_wfl, jfr_wfl, jai_wfl, jal_wfl, jar_wfl, jsz_wfl, jus_wfl, jkd_wfr, jln_wfr, jfi_wfr, jfl_wfr, jfr_wfr, jai_wfr, jal_wfr, jar_wfr, jsz_wfr, jus_wfr, jkd_wai, jln_wai, jfi_wai, jfl_wai, jfr_wai, jai_wai, jal_wai, jar_wai, jsz_wai, jus_wai, jkd_wal, jln_wal, jfi_wal, jfl_wal, jfr_wal, jai_wal, jal_wal, jar_wal, jsz_wal, jus_wal, jkd_war, jln_war, jfi_war, jfl_war, jfr_war, jai_war, jal_war, jar_war, jsz_war, jus_war, jkd_nwo, jln_nwo, jfi_nwo, jfl_nwo, jfr_nwo, jai_nwo, jal_nwo, jar_nwo, jsz_nwo, jus_nwo, jkd_nwa, jln_nwa, jfi_nwa, jfl_nwa, jfr_nwa, jai_nwa, jal_nwa, jar_nwa, jsz_nwa, jus_nwa, jkd_cpa, jln_cpa, jfi_cpa, jfl_cpa, jfr_cpa, jai_cpa, jal_cpa, jar_cpa, jsz_cpa, jus_cpa, Nat.reduceEqDiff, false_and, if_false]; exact k3.1.2.2.2.2.1
            · simp only [jkd_wfi, jln_wfi, jfi_wfi, jfl_wfi, jfr_wfi, jai_wfi, jal_wfi, jar_wfi, jsz_wfi, jus_wfi, jkd_wfl, jln_wfl, jfi_wfl, jfl_wfl, jfr_wfl, jai_wfl, jal_wfl, jar_wfl, jsz_wfl, jus_wfl, jkd_wfr, jln_wfr, jfi_wfr, jfl_wfr, jfr_wfr, jai_wfr, jal_wfr, jar_wfr, jsz_wfr, jus_wfr, jkd_wai, jln_wai, jfi_wai, jfl_wai, jfr_wai, jai_wai, jal_wai, jar_wai, jsz_wai, jus_wai, jkd_wal, jln_wal, jfi_wal, jfl_wal, jfr_wal, jai_wal, jal_wal, jar_wal, jsz_wal, jus_wal, jkd_war, jln_war, jfi_war, jfl_war, jfr_war, jai_war, jal_war, jar_war, jsz_war, jus_war, jkd_nwo, jln_nwo, jfi_nwo, jfl_nwo, jfr_nwo, jai_nwo, jal_nwo, jar_nwo, jsz_nwo, jus_nwo, jkd_nwa, jln_nwa, jfi_nwa, jfl_nwa, jfr_nwa, jai_nwa, jal_nwa, jar_nwa, jsz_nwa, jus_nwa, jkd_cpa, jln_cpa, jfi_cpa, jfl_cpa, jfr_cpa, jai_cpa, jal_cpa, jar_cpa, jsz_cpa, jus_cpa, Nat.reduceEqDiff, false_and, if_false]; exact k3.1.2.2.2.2.2
          have lp4 : lp (pLeave σ3) = lp σ3 := lp_eq rfl
          have l3 := n3.2.2.2.2.2
          have n23 := n2.tr n3
          exact endR fun _ _ _ => ⟨i, pLeave σ3, ρ3, eq1, hv3, ⟨k4, (f1.tr n23.2.1).tr (PFr.fi _ hI3 k3.1.1), n23.2.2.1, ((s1.tr n23.2.2.2.1).tr Sp.fi).mono (by omega) (by omega), xz.2.1, by omega⟩, by omega⟩
        · rintro y3 h3 hI3 ⟨er, e3, n3⟩
          have n3' := n2.err (Int.le_refl _) (Int.le_refl _) n3
          exact endX fun _ _ => ⟨er, by rw [eq0, e2, ok_bind, e3]; rfl, n3'.1, f1.tr n3'.2.1, (s1.tr n3'.2.2.1).mono (by omega) (by omega), by have := n3'.2.2.2; omega⟩
      · rintro y2 h2 hI2 _ ⟨er, e2, n2⟩
        exact endX fun _ _ => ⟨er, by rw [eq0, e2]; rfl, n2.1, f1.tr n2.2.1, (s1.tr n2.2.2.1).mono (by omega) (by omega), by have := n2.2.2.2; omega⟩
    · rintro y1 h1 hI1 _ ⟨er, e1, n1⟩
      refine endX fun _ _ => ⟨er, ?_, n1.up⟩
      unfold pExpr
      rw [e1]; rfl
end
