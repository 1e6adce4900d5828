/-! expressions of the component: what stands behind a sum -/
theorem is_ne {σ : PS} {a b : String} (h : pIs σ a = true) (hab : (sStr a == sStr b) = false) : pIs σ b = false := by
  unfold pIs at h ⊢
  simp only [Bool.and_eq_true, beq_iff_eq] at h
  rw [h.2, hab, Bool.and_false]
section
variable {D : JD} {p s a base : Nat} {src : Str} {h h' h'' h0 : JH} {σ σ' σ'' σ0 : PS} {ρ ρ' ρ'' ρ0 : Nat → Nat} {n m n' m' : Int} {d c r : Nat}
def CXr (D : JD) (p s a base : Nat) (src : Str) (rec : PS → Except Nat (Nat × PS)) (N : Nat) : Prop := ∀ σ ρ h d, PsR D p s a base src h σ ρ → N ≤ psO σ → 11 * (30 - psO σ) + 20 ≤ d →
  cX17_expression D d p h (pR D h 55 (XP D p s a base src h σ ρ (rec σ)) (XE p s src h σ (rec σ)))
def CS (D : JD) (p s a base : Nat) (src : Str) (rec : PS → Except Nat (Nat × PS)) (N : Nat) : Prop := ∀ σ ρ h d, PsR D p s a base src h σ ρ → N ≤ psO σ → 11 * (30 - psO σ) + 26 ≤ d →
  cX17_sums D d p h (pR D h 55 (XP D p s a base src h σ ρ (pSums rec true src σ)) (XE p s src h σ (pSums rec true src σ)))
theorem xr_lt {rec : PS → Except Nat (Nat × PS)} (hx : ∀ σ, Xz src (3 * (30 - psO σ)) σ (rec σ)) : ∀ σ x σ', rec σ = .ok (x, σ') → Gd src σ → x < (psA σ').length := fun σ x σ' e g => by
  have := (hx σ g _ e).2.2.1
  dsimp only at this
  omega
theorem JInv.nO {k N : Nat} (hI : JInv D h) (hk : jkk k = true) : JInv D (nwo h k N) := hI.new hk (fun _ => rfl) (fun _ _ => rfl) rfl (fun _ _ => ⟨rfl, rfl, rfl⟩) fun _ _ => ⟨rfl, rfl, rfl⟩
theorem JInv.nA {k N : Nat} (hI : JInv D h) (hk : jkk k = true) : JInv D (nwa h k N) := hI.new hk (fun _ => rfl) (fun q hq => by rw [jln_nwa, if_neg (by omega)]) rfl (fun _ _ => ⟨rfl, rfl, rfl⟩) fun _ _ => ⟨rfl, rfl, rfl⟩
theorem sbt_node : ∀ k, k < 30 → 20 ≤ k → sbt k (atg 222) = true := by decide +kernel
theorem inv_sto {i v x : Nat} (hI : JInv D h) (u : ArU h r) (k : PsR D p s a base src h σ ρ) (hx : x < (psA σ).length) (hv : v = ρ x) : JInv D (war h r i v) := by
  refine hI.war (hI.2.1 r (by rw [u.2.1]; decide)) u.1 (Or.inr ?_)
  have kx := k.2.2.2.2.1 x hx
  have nk := nkd_ex (nat_ (psA σ) x)
  rw [u.2.1, hv, kx.2.1]
  exact sbt_node _ (by omega) (by omega)
theorem POk.nAs {N v : Nat} (k : POk D p s a base src h0 h σ0 σ ρ0 ρ n m) (hI : JInv D h) (hI0 : JInv D h0) (hs : s ≤ jsz h0) : POk D p s a base src h0 (war (nwa h 222 N) (jsz h + 1) 0 v) σ0 σ ρ0 ρ (n + 1) (m + N) := by
  have f : fr (jsz h) (fun q => q = jsz h + 1) h (war (nwa h 222 N) (jsz h + 1) 0 v) := (fr_nwa (Nat.le_refl _)).tr (fr_war (Or.inl rfl))
  have lt : jsz h0 ≤ jsz h := k.2.1.2.2.2.1.1
  exact ⟨k.1.fresh hI f (Or.inr (Nat.lt_succ_self _)) (k.1.2.2.2.1.new fun _ _ => rfl), k.2.1.fresh hI (by omega) f (Nat.le_succ _) hs hI0.refl (by rw [hI.new0 (Nat.lt_succ_self _)]; decide) hI0 fun _ => Or.inl rfl, k.2.2.1, ((k.2.2.2.1.tr (Sp.nA (by decide))).tr Sp.ar).mono (by omega) (by omega), k.2.2.2.2⟩
theorem w_among {N lo N0 x v1 : Nat} {rec : PS → Except Nat (Nat × PS)} (hx : ∀ σ, Xz src (3 * (30 - psO σ)) σ (rec σ)) (hr : CXr D p s a base src rec N) (hsm : CS D p s a base src rec N) (due : Bool) (k : PsR D p s a base src h σ ρ) (hxq : Xq N0 (3 * (30 - psO σ) + 1) lo σ x) (hv : v1 = ρ x) (hN : N ≤ psO σ) (hd : 11 * (30 - psO σ) + 27 ≤ d) :
    cX17_among D d p v1 h (pR D h 55 (fun v h' => (v = 0 ∧ h' = h ∧ pIs σ "in" = false ∧ pIs σ "like" = false ∧ pIs σ "between" = false) ∨ (v ≠ 0 ∧ XP D p s a base src h σ ρ (pAmong rec true src lo x due σ) v h' ∧ (pIs σ "in" = true ∨ pIs σ "like" = true ∨ pIs σ "between" = true))) (XE p s src h σ (pAmong rec true src lo x due σ))) := by
  obtain ⟨e, rfl, he⟩ := dsucc hd
  have g := k.2.2.2.2.2.1
  have hxl : x < (psA σ).length := by rw [← hxq.1]; omega
  refine JW.inv fun hI => t_X17_among ⟨k.1.2.1, k.sg, ?_⟩
  have s0 := POk.s0 k hI
  rw [k.1.2.2.1]
  refine useI (w_takesWord k "like" (by decide +kernel) (by omega)) ?_ ?_
  · rintro v1' h1 hI1 _ ⟨b, σ1, e1, rfl, n1, q1, t1, f1⟩
    cases b with
    | true =>
      refine ⟨fun z => absurd z (by decide), fun _ => ?_⟩
      obtain ⟨il, en, l1⟩ := t1 rfl
      have iin := is_ne (b := "in") il (by decide)
      have eq0 : pAmong rec true src lo x due σ = (pSums rec true src σ1 >>= fun q => .ok (pNode q.2 (6, 0, [], none, vNull, [x, q.1], lo))) := by
        unfold pAmong
        rw [if_neg (by rw [iin]; simp), if_pos il, en]; rfl
      rintro r2 h2 rfl rfl
      have n2 := n1.pok.nO (kk := 27) (N := 5) hI1 hI s0 rfl
      have o1 : psO σ1 = psO σ := n1.2.2.2.2.1.1
      refine JW.inv fun hI2 => useR (hsm σ1 ρ _ e n2.1 (by omega) (by omega)) ?_ ?_
      · rintro v3 h3 hI3 _ ⟨y, σ3, ρ3, e3, rfl, n3, l3⟩
        have n23 := n2.tr n3
        have w3 := n3.raw n2.1 hI2 (Raw.new hI1) (by decide)
        have eq1 : pAmong rec true src lo x due σ = .ok (pNode σ3 (6, 0, [], none, vNull, [x, y], lo)) := by rw [eq0, e3]; rfl
        have xa := x_among hx lo N0 x due σ g hxq _ eq1
        have lt1 : jsz h ≤ jsz h1 := n1.2.1.2.2.2.1.1
        refine useV0 (w_pair n23 hI3 hI s0 w3 (by omega) (Or.inl rfl) xa.1 (hv.trans (n23.2.2.1 x hxl).symm) rfl rfl (by omega)) ?_
        rintro h4 hI4 _ n4
        have lp4 : lp (pNode σ3 (6, 0, [], none, vNull, [x, y], lo)).2 = lp σ3 := lp_eq rfl
        exact endR fun _ _ _ => Or.inr ⟨Nat.succ_ne_zero _, ⟨(pNode σ3 (6, 0, [], none, vNull, [x, y], lo)).1, (pNode σ3 (6, 0, [], none, vNull, [x, y], lo)).2, _, eq1, (rup_eq _ _ _).symm, n4.mono (by omega) (by omega), by omega⟩, Or.inr (Or.inl il)⟩
      · rintro y3 h3 hI3 _ ⟨er, e3, n3⟩
        exact endX fun _ _ => ⟨er, by rw [eq0, e3]; rfl, n2.err (by omega) (by omega) n3⟩
    | false =>
      obtain ⟨il, rfl, rfl⟩ := f1 rfl
      refine ⟨fun _ => ⟨k.sg, ?_⟩, fun z => absurd rfl z⟩
      rw [k.1.2.2.1]
      refine useI (w_takesWord k "between" (by decide +kernel) (by omega)) ?_ ?_
      · rintro v2' h2 hI2 _ ⟨b, σ2, e2, rfl, n2, q2, t2, f2⟩
        cases b with
        | true =>
          refine ⟨fun z => absurd z (by decide), fun _ => ?_⟩
          obtain ⟨ib, en, l2⟩ := t2 rfl
          have iin := is_ne (b := "in") ib (by decide)
          have eq0 : pAmong rec true src lo x due σ1 = (pSums rec true src σ2 >>= fun q => pNeed true src "and" q.2 >>= fun t => pSums rec true src t.2 >>= fun w => .ok (pNode w.2 (7, 0, [], none, vNull, [x, q.1, w.1], lo))) := by
            unfold pAmong
            rw [if_neg (by rw [iin]; simp), if_neg (by rw [il]; simp), if_pos ib, en]; rfl
          rintro r3 h3 rfl rfl
          have o2 : psO σ2 = psO σ1 := n2.2.2.2.2.1.1
          have A2 : psA σ2 = psA σ1 := by unfold psA; rw [q2]
          have u3 : ArU (nwa h2 222 3) (jsz h2 + 1) := ArU.new hI2
          have ar3 : ArR (nwa h2 222 3) ρ (jsz h2 + 1) [] := ArR.new (by decide)
          have lt2 : jsz h1 ≤ jsz h2 := n2.2.1.2.2.2.1.1
          have ln3 : jln (nwa h2 222 3) (jsz h2 + 1) = 3 := by simp only [jkd_wfi, jln_wfi, jfi_wfi, jfl_wfi, jfr_wfi, jai_wfi, jal_wfi, jar_wfi, jsz_wfi, jus_wfi, jkd_wfl, jln_wfl, jfi_wfl, jfl_wfl, jfr_wfl, jai_wfl, jal_wfl, jar_wfl, jsz_wfl, jus_wfl, jkd_wfr, jln_wfr, jfi_wfr, jfl_wfr, jfr_wfr, jai_wfr, jal_wfr, jar_wfr, jsz_wfr, jus_wfr, jkd_wai, jln_wai, jfi_wai, jfl_wai, jfr_wai, jai_wai, jal_wai, jar_wai, jsz_wai, jus_wai, jkd_wal, jln_wal, jfi_wal, jfl_wal, jfr_wal, jai_wal, jal_wal, jar_wal, jsz_wal, jus_wal, jkd_war, jln_war, jfi_war, jfl_war, jfr_war, jai_war, jal_war, jar_war, jsz_war, jus_war, jkd_nwo, jln_nwo, jfi_nwo, jfl_nwo, jfr_nwo, jai_nwo, jal_nwo, jar_nwo, jsz_nwo, jus_nwo, jkd_nwa, jln_nwa, jfi_nwa, jfl_nwa, jfr_nwa, jai_nwa, jal_nwa, jar_nwa, jsz_nwa, jus_nwa, jkd_cpa, jln_cpa, jfi_cpa, jfl_cpa, jfr_cpa, jai_cpa, jal_cpa, jar_cpa, jsz_cpa, jus_cpa, if_true]
          refine ⟨by rw [ln3]; exact jin_nI (n := 0) (by decide) (by decide), ?_⟩
          rintro h4 rfl
          rw [show ixn (0 : Int32) = 0 from rfl]
          have n4 := n2.pok.nAs (N := 3) (v := v1) hI2 hI s0
          have ar4 : ArR (war (nwa h2 222 3) (jsz h2 + 1) 0 v1) ρ (jsz h2 + 1) [x] := ar3.put hv (by rw [ln3]; decide)
          have u4 : ArU (war (nwa h2 222 3) (jsz h2 + 1) 0 v1) (jsz h2 + 1) := u3
          refine JW.inv fun hI4 => useR (hsm σ2 ρ _ e n4.1 (by omega) (by omega)) ?_ ?_
          · rintro v5 h5 hI5 _ ⟨y, σ5, ρ5, e5, hv5, n5, l5⟩
            have n45 := n4.tr n5
            have y5 := (x_sums hx σ2 n2.1.2.2.2.2.2.1 _ e5).2.2.1
            dsimp only at y5
            obtain ⟨ar5, u5⟩ := n5.arr n4.1 hI4 ar4 u4 (fun z hz => by rw [List.mem_singleton.mp hz, A2]; exact hxl)
            have ln5 : jln h5 (jsz h2 + 1) = 3 := by rw [(n5.2.1.arS hI4 n4.1.1.1 n4.1.s15.1 ar4.1 u4).ln]; exact ln3
            refine ⟨by rw [ln5]; exact jin_nI (n := 1) (by decide) (by decide), ?_⟩
            rintro h6 rfl
            rw [show ixn (1 : Int32) = 1 from rfl]
            have n6 := n45.sto (i := 1) (v := v5) hI5 hI s0 u5 (by omega)
            have ar6 : ArR (war h5 (jsz h2 + 1) 1 v5) ρ5 (jsz h2 + 1) [x, y] := ar5.put hv5 (by rw [ln5]; simp)
            have u6 := u5.put (i := 1) (v := v5)
            have x5 : x < (psA σ5).length := Nat.lt_of_lt_of_le (by rw [A2]; exact hxl) n5.2.2.2.2.1.len
            refine ⟨n6.1.sg, ?_⟩
            rw [n6.1.1.2.2.1]
            refine JW.inv fun hI6 => useV (w_needWord n6.1 "and" (by decide +kernel) (by omega)) ?_ ?_
            · rintro h7 hI7 _ ⟨σ7, e7, n7, l7, q7⟩
              have n67 := n6.tr n7
              have A7 : psA σ7 = psA σ5 := by unfold psA; rw [q7]
              obtain ⟨ar7, u7⟩ := n7.arr n6.1 hI6 ar6 u6 (fun z hz => by simp at hz; rcases hz with rfl | rfl <;> omega)
              have ln7 : jln h7 (jsz h2 + 1) = 3 := by rw [(n7.2.1.arS hI6 n6.1.1.1 n6.1.s15.1 ar4.1 u6).ln]; exact ln5
              have o5 : psO σ5 = psO σ2 := n5.2.2.2.2.1.1
              have o7 : psO σ7 = psO σ5 := n7.2.2.2.2.1.1
              refine useR (hsm σ7 ρ5 h7 e n7.1 (by omega) (by omega)) ?_ ?_
              · rintro v8 h8 hI8 _ ⟨w, σ8, ρ8, e8, hv8, n8, l8⟩
                have n68 := n67.tr n8
                obtain ⟨ar8, u8⟩ := n8.arr n7.1 hI7 ar7 u7 (fun z hz => by rw [A7]; simp at hz; rcases hz with rfl | rfl <;> omega)
                have ln8 : jln h8 (jsz h2 + 1) = 3 := by rw [(n8.2.1.arS hI7 n7.1.1.1 n7.1.s15.1 ar4.1 u7).ln, ln7]
                refine ⟨by rw [ln8]; exact jin_nI (n := 2) (by decide) (by decide), ?_⟩
                rintro h9 rfl
                rw [show ixn (2 : Int32) = 2 from rfl]
                have n9 := n68.sto (i := 2) (v := v8) hI8 hI s0 u8 (by omega)
                have ar9 : ArR (war h8 (jsz h2 + 1) 2 v8) ρ8 (jsz h2 + 1) [x, y, w] := ar8.put hv8 (by rw [ln8]; simp)
                have u9 := u8.put (i := 2) (v := v8)
                rintro r10 h10 rfl rfl
                have w8 := (x_sums hx σ7 n7.1.2.2.2.2.2.1 _ e8).2.2.1
                dsimp only at w8
                have hI9 : JInv D (war h8 (jsz h2 + 1) 2 v8) := inv_sto hI8 u8 n8.1 (by omega) hv8
                refine JW.inv fun hI10 => ?_
                have eq1 : pAmong rec true src lo x due σ1 = .ok (pNode σ8 (7, 0, [], none, vNull, [x, y, w], lo)) := by rw [eq0, e5, ok_bind, e7, ok_bind, e8]; rfl
                have xa := x_among hx lo N0 x due σ1 g hxq _ eq1
                have lt8 : jsz h1 ≤ jsz h8 := n68.2.1.2.2.2.1.1
                have n10 := n9.nO (kk := 29) (N := 5) hI9 hI s0 rfl
                refine useV0 (w_within (o := 7) (l := [x, y, w]) n10 hI10 hI s0 (Raw.new hI9) (by show jsz h1 < jsz h8 + 1; omega) (Or.inr rfl) xa.1 (ar9.nO u9) u9.nO (by omega) rfl rfl (by omega)) ?_
                rintro h11 hI11 _ n11
                have lp11 : lp (pNode σ8 (7, 0, [], none, vNull, [x, y, w], lo)).2 = lp σ8 := lp_eq rfl
                exact endR fun _ _ _ => Or.inr ⟨Nat.succ_ne_zero _, ⟨(pNode σ8 (7, 0, [], none, vNull, [x, y, w], lo)).1, (pNode σ8 (7, 0, [], none, vNull, [x, y, w], lo)).2, _, eq1, (rup_eq _ _ _).symm, n11.mono (by omega) (by omega), by omega⟩, Or.inr (Or.inr ib)⟩
              · rintro y8 h8 hI8 _ ⟨er, e8, n8⟩
                exact endX fun _ _ => ⟨er, by rw [eq0, e5, ok_bind, e7, ok_bind, e8]; rfl, n67.err (by omega) (by omega) n8⟩
            · rintro y7 h7 hI7 _ ⟨er, e7, n7⟩
              exact endX fun _ _ => ⟨er, by rw [eq0, e5, ok_bind, e7]; rfl, n6.err (by omega) (by omega) n7⟩
          · rintro y5 h5 hI5 _ ⟨er, e5, n5⟩
            exact endX fun _ _ => ⟨er, by rw [eq0, e5]; rfl, n4.err (by omega) (by omega) n5⟩
        | false =>
          obtain ⟨ib, rfl, rfl⟩ := f2 rfl
          refine ⟨fun _ => ⟨k.sg, ?_⟩, fun z => absurd rfl z⟩
          rw [k.1.2.2.1]
          refine useI (w_takesWord k "in" (by decide +kernel) (by omega)) ?_ ?_
          · rintro v3' h3 hI3 _ ⟨b, σ3, e3, rfl, n3, q3, t3, f3⟩
            cases b with
            | true =>
              refine ⟨fun _ => ?_, fun z => absurd z (by decide)⟩
              obtain ⟨ii, en, l3⟩ := t3 rfl
              have eq0 : pAmong rec true src lo x due σ2 = (pNeed true src "(" σ3 >>= fun q => inS rec src lo x 9 [] q.2) := by
                unfold pAmong inS
                rw [if_pos ii, en]; rfl
              refine ⟨n3.1.sg, ?_⟩
              rw [n3.1.1.2.2.1]
              refine useV (w_need n3.1 "(" (by decide +kernel) (by omega)) ?_ ?_
              · rintro h4 hI4 _ ⟨σ4, e4, n4, l4, q4⟩ r5 h5 rfl rfl
                have n34 := n3.pok.tr n4
                have ln5 : jln (nwa h4 222 9) (jsz h4 + 1) = 9 := by simp only [jkd_wfi, jln_wfi, jfi_wfi, jfl_wfi, jfr_wfi, jai_wfi, jal_wfi, jar_wfi, jsz_wfi, jus_wfi, jkd_wfl, jln_wfl, jfi_wfl, jfl_wfl, jfr_wfl, jai_wfl, jal_wfl, jar_wfl, jsz_wfl, jus_wfl, jkd_wfr, jln_wfr, jfi_wfr, jfl_wfr, jfr_wfr, jai_wfr, jal_wfr, jar_wfr, jsz_wfr, jus_wfr, jkd_wai, jln_wai, jfi_wai, jfl_wai, jfr_wai, jai_wai, jal_wai, jar_wai, jsz_wai, jus_wai, jkd_wal, jln_wal, jfi_wal, jfl_wal, jfr_wal, jai_wal, jal_wal, jar_wal, jsz_wal, jus_wal, jkd_war, jln_war, jfi_war, jfl_war, jfr_war, jai_war, jal_war, jar_war, jsz_war, jus_war, jkd_nwo, jln_nwo, jfi_nwo, jfl_nwo, jfr_nwo, jai_nwo, jal_nwo, jar_nwo, jsz_nwo, jus_nwo, jkd_nwa, jln_nwa, jfi_nwa, jfl_nwa, jfr_nwa, jai_nwa, jal_nwa, jar_nwa, jsz_nwa, jus_nwa, jkd_cpa, jln_cpa, jfi_cpa, jfl_cpa, jfr_cpa, jai_cpa, jal_cpa, jar_cpa, jsz_cpa, jus_cpa, if_true]
                refine ⟨by rw [ln5]; exact jin_nI (n := 0) (by decide) (by decide), ?_⟩
                rintro h6 rfl
                rw [show ixn (0 : Int32) = 0 from rfl]
                have n6 := n34.nAs (N := 9) (v := v1) hI4 hI s0
                have u5 : ArU (nwa h4 222 9) (jsz h4 + 1) := ArU.new hI4
                have ar5 : ArR (nwa h4 222 9) ρ (jsz h4 + 1) [] := ArR.new (by decide)
                have ar6 : ArR (war (nwa h4 222 9) (jsz h4 + 1) 0 v1) ρ (jsz h4 + 1) [x] := ar5.put hv (by rw [ln5]; decide)
                have A4 : psA σ4 = psA σ2 := by unfold psA; rw [q4, q3]
                have o3 : psO σ3 = psO σ2 := n3.2.2.2.2.1.1
                have o4 : psO σ4 = psO σ3 := n4.2.2.2.2.1.1
                have hI6 : JInv D (war (nwa h4 222 9) (jsz h4 + 1) 0 v1) := inv_sto (x := x) (ρ := ρ) (hI4.nA (by decide)) u5 (n4.1.nA hI4 222 9) (by rw [A4]; exact hxl) hv
                have lt4 : jsz h2 ≤ jsz h4 := n34.2.1.2.2.2.1.1
                have kd : Pd D p s a base src h2 (war (nwa h4 222 9) (jsz h4 + 1) 0 v1) σ2 σ4 ρ ρ := POk.mono n6 (by omega) (by omega)
                refine ⟨9, w_amongL hr hI s0 lo x (jsz h4 + 1) (by omega) 9 [] σ4 ρ _ e _ kd hI6 ar6 u5 ln5 (fun z hz => by rw [List.mem_singleton.mp hz, A4]; exact hxl) (by decide) (by decide) (by omega) (by omega) (fun i σ' ee => (x_among hx lo N0 x due σ2 g hxq (i, σ') (by rw [eq0, e4, ok_bind]; exact ee)).1) (xr_lt hx) ?_ ?_⟩
                · rintro v7 h7 hI7 ⟨i, σ7, ρ7, e7, hv7, n7, l7⟩
                  have eq1 : pAmong rec true src lo x due σ2 = .ok (i, σ7) := by rw [eq0, e4, ok_bind]; exact e7
                  have xa := x_among hx lo N0 x due σ2 g hxq _ eq1
                  have := xa.2.2.1
                  dsimp only at this
                  exact endR fun _ _ _ => Or.inr ⟨by rw [hv7]; exact n7.1.ne0 (by omega), ⟨i, σ7, ρ7, eq1, hv7, n7, by omega⟩, Or.inl ii⟩
                · rintro y7 h7 hI7 ⟨er, e7, n7⟩
                  exact endX fun _ _ => ⟨er, by rw [eq0, e4, ok_bind]; exact e7, n7⟩
              · rintro y4 h4 hI4 _ ⟨er, e4, n4⟩
                exact endX fun _ _ => ⟨er, by rw [eq0, e4]; rfl, n3.pok.err (by omega) (by omega) n4⟩
            | false =>
              obtain ⟨ii, rfl, rfl⟩ := f3 rfl
              exact ⟨fun z => absurd rfl z, fun _ => endR fun _ _ _ => Or.inl ⟨rfl, rfl, ii, il, ib⟩⟩
          · rintro y3 h3 hI3 _ ⟨er, e3, n3⟩
            refine endX fun _ _ => ⟨er, ?_, n3.up⟩
            by_cases ii : pIs σ2 "in" = true
            · unfold pTake at e3
              rw [if_pos ii] at e3
              have en : pNext true src σ2 = .error er := by
                revert e3
                cases pNext true src σ2 with
                | ok q => intro e3; cases e3
                | error z => intro e3; cases e3; rfl
              unfold pAmong
              rw [if_pos ii, en]; rfl
            · unfold pTake at e3
              rw [if_neg ii] at e3
              cases e3
      · rintro y2 h2 hI2 _ ⟨er, e2, n2⟩
        refine endX fun _ _ => ⟨er, ?_, n2.up⟩
        by_cases ib : pIs σ1 "between" = true
        · unfold pTake at e2
          rw [if_pos ib] at e2
          have en : pNext true src σ1 = .error er := by
            revert e2
            cases pNext true src σ1 with
            | ok q => intro e2; cases e2
            | error z => intro e2; cases e2; rfl
          unfold pAmong
          rw [if_neg (by rw [is_ne (b := "in") ib (by decide)]; simp), if_neg (by rw [il]; simp), if_pos ib, en]; rfl
        · unfold pTake at e2
          rw [if_neg ib] at e2
          cases e2
  · rintro y1 h1 hI1 _ ⟨er, e1, n1⟩
    refine endX fun _ _ => ⟨er, ?_, n1.up⟩
    by_cases il : pIs σ "like" = true
    · unfold pTake at e1
      rw [if_pos il] at e1
      have en : pNext true src σ = .error er := by
        revert e1
        cases pNext true src σ with
        | ok q => intro e1; cases e1
        | error z => intro e1; cases e1; rfl
      unfold pAmong
      rw [if_neg (by rw [is_ne (b := "in") il (by decide)]; simp), if_pos il, en]; rfl
    · unfold pTake at e1
      rw [if_neg il] at e1
      cases e1
end
