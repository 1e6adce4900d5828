/-! expressions of the component: functions -/
section
variable {D : JD} {p s a base : Nat} {src : Str} {h h' h'' h0 : JH} {σ σ' σ'' σ0 : PS} {ρ ρ' ρ'' ρ0 : Nat → Nat} {n m n' m' : Int} {d c r : Nat}
theorem k_known {nm : Str} (hs : StR h r nm) (hd : 3 ≤ d) : cX28_known D d r h (pI D h (fun v h' => v = (if tGather nm = true then 1 else 0) ∧ h' = h) no) := by
  refine JW.up (n := 3) (fun d => JW.inv fun hI => t_X28_known ⟨hs.1, ?_⟩) hd
  have cst : ∀ {j : Nat} {w : String}, (Nat.ble j 344 && (jcon j == sStr w)) = true → StR h (jcs D j) (sStr w) := fun {j w} hj => by
    simp only [Bool.and_eq_true, Nat.ble_eq, beq_iff_eq] at hj
    have := k_const hI (j := j) (by omega)
    rwa [hj.2] at this
  have yes : tGather nm = true → W_X28_known_36 D (d + 2) (pI D h (fun v h' => v = (if tGather nm = true then 1 else 0) ∧ h' = h) no) h := fun z => ⟨jbo1, endI fun _ _ => ⟨by rw [if_pos z], rfl⟩⟩
  refine useI0 (k_equals (d := d) hs (cst (j := 114) (w := "count") (by decide +kernel))) ?_
  rintro v h1 _ _ ⟨rfl, rfl⟩
  by_cases e1 : nm = sStr "count"
  · rw [if_pos e1]; exact ⟨fun _ => yes (by unfold tGather; rw [e1]; decide), fun z => absurd z (by decide)⟩
  rw [if_neg e1]
  refine ⟨fun z => absurd rfl z, fun _ => useI0 (k_equals (d := d) hs (cst (j := 115) (w := "sum") (by decide +kernel))) ?_⟩
  rintro v h2 _ _ ⟨rfl, rfl⟩
  by_cases e2 : nm = sStr "sum"
  · rw [if_pos e2]; exact ⟨fun _ => yes (by unfold tGather; rw [e2]; decide), fun z => absurd z (by decide)⟩
  rw [if_neg e2]
  refine ⟨fun z => absurd rfl z, fun _ => useI0 (k_equals (d := d) hs (cst (j := 116) (w := "min") (by decide +kernel))) ?_⟩
  rintro v h3 _ _ ⟨rfl, rfl⟩
  by_cases e3 : nm = sStr "min"
  · rw [if_pos e3]; exact ⟨fun _ => yes (by unfold tGather; rw [e3]; decide), fun z => absurd z (by decide)⟩
  rw [if_neg e3]
  refine ⟨fun z => absurd rfl z, fun _ => useI0 (k_equals (d := d) hs (cst (j := 117) (w := "max") (by decide +kernel))) ?_⟩
  rintro v h4 _ _ ⟨rfl, rfl⟩
  by_cases e4 : nm = sStr "max"
  · rw [if_pos e4]; exact ⟨fun z => absurd z (by decide), fun _ => yes (by unfold tGather; rw [e4]; decide)⟩
  rw [if_neg e4]
  refine ⟨fun _ => ⟨jbo0, endI fun _ _ => ⟨?_, rfl⟩⟩, fun z => absurd rfl z⟩
  rw [if_neg]
  unfold tGather
  simp only [Bool.or_eq_true, beq_iff_eq]
  rintro (z | z | z | z)
  · exact e1 z
  · exact e2 z
  · exact e3 z
  · exact e4 z
theorem nod_agg {k lo x : Nat} {l : List Nat} {nm : Str} (hr : r ≠ 0) (hk : jkd h r = 22) (hg : k = 1 ∨ tGather nm = true) (c8 : CelW D h (jfr h 108 r)) (c5 : CelW D h (jfr h 115 r)) (ha : ArR h ρ x l) (e1 : jfr h 111 r = x) (e2 : jfi h 112 r = nI l.length) (e3 : StR h (jfr h 113 r) nm) (e4 : jfi h 114 r = nI k) : NodR D h ρ (3, k, nm, none, vNull, l, lo) r := by
  have hn : nkd (3, k, nm, none, vNull, l, lo) = 22 := by
    show (if k = 1 ∨ tGather nm = true then 22 else 23) = 22
    rw [if_pos hg]
  refine ⟨hr, by rw [hk, hn], c8, fun e => ?_, fun e => ?_, fun e => ?_, fun e => ⟨fun z => ⟨e3, e4, c5⟩, fun z => ?_⟩, fun e => ⟨by rw [e1]; exact ha.1, by rw [e1]; exact ha.2.1, e2, by rw [e1]; exact ha.2.2.1, by rw [e1]; exact ha.2.2.2.1, by rw [e1]; exact ha.2.2.2.2⟩, fun e => ?_, fun e => ?_, fun e => ?_, fun e => ?_, fun e => ?_⟩
  · exfalso; have e' := e; simp only [ndO] at e'; omega
  · exfalso; have e' := e; simp only [ndO] at e'; omega
  · exfalso; have e' := e; simp only [ndO] at e'; omega
  · rw [hn] at z; cases z
  all_goals (exfalso; (have e' := e; simp only [ndO] at e'; omega))
theorem str_fresh {w : Str} {q : Nat} (hI : JInv D h) (z : StR h q w) (f : fr (jsz h) (fun q => q = r) h h') (hk : 20 ≤ jkd h r ∧ jkd h r ≤ 29) : StR h' q w := by
  have hl := z.lt hI
  have z1 := z.2.1
  have z2 := z.2.2.2.2.1
  exact z.of (f q hl.1 fun e => by rw [e] at z1; omega) (f _ hl.2 fun e => by rw [e] at z2; omega)
/-- the bracket that ends a function's parts, and its node -/
def fnS (src : Str) (lo : Nat) (nm : Str) (k : Nat) (l : List Nat) (σ : PS) : Except Nat (Nat × PS) := pNeed true src ")" σ >>= fun q => .ok (pNode q.2 (3, k, nm, none, vNull, l, lo))
theorem w_call70 {lo arr nr : Nat} {l : List Nat} {nm : Str} (b : Bool) (Q : JO → JH → Prop) (k : Pd D p s a base src h0 h σ0 σ ρ0 ρ) (hI : JInv D h) (hI0 : JInv D h0) (hs0 : s ≤ jsz h0) (ha : jsz h0 < arr) (hn : StR h nr nm) (ar : ArR h ρ arr l) (u : ArU h arr) (hlt : ∀ x ∈ l, x < (psA σ).length) (hd : 12 ≤ d)
    (hG : ∀ i σ', fnS src lo nm (if b = true then 1 else 0) l σ = .ok (i, σ') → Gd src σ')
    (hQ : ∀ v h', JInv D h' → (∃ i σ' ρ', fnS src lo nm (if b = true then 1 else 0) l σ = .ok (i, σ') ∧ v = ρ' i ∧ Pd D p s a base src h0 h' σ0 σ' ρ0 ρ' ∧ lp σ + 1 ≤ lp σ') → Q (.inl (some (vR 55 v))) h') (hE : ∀ y h', JInv D h' → XE p s src h0 σ0 (fnS src lo nm (if b = true then 1 else 0) l σ) y h' → Q (.inr y) h') :
    W_X17_call_70 D d Q p nr arr (nI l.length) (if b = true then 1 else 0) h := by
  refine ⟨k.1.1.2.1, k.1.sg, ?_⟩
  rw [k.1.1.2.2.1]
  refine useV (w_need k.1 ")" (by decide +kernel) (by omega)) ?_ ?_
  · rintro h1 hI1 _ ⟨σ1, e1, n1, l1, q1⟩
    have n01 := POk.tr k n1
    obtain ⟨ar1, u1⟩ := n1.arr k.1 hI ar u hlt
    have hn1 := n1.2.1.2.2.2.2 _ _ hn
    have lt1 : jsz h0 ≤ jsz h1 := n01.2.1.2.2.2.1.1
    have eq1 : fnS src lo nm (if b = true then 1 else 0) l σ = .ok (pNode σ1 (3, if b = true then 1 else 0, nm, none, vNull, l, lo)) := by
      unfold fnS
      rw [e1]; rfl
    have g1 := hG _ _ eq1
    have lp1 : lp (pNode σ1 (3, if b = true then 1 else 0, nm, none, vNull, l, lo)).2 = lp σ1 := lp_eq rfl
    have agg : (b = true ∨ tGather nm = true) → W_X17_call_91 D d Q nr arr (nI l.length) (if b = true then 1 else 0) h1 := by
      rintro hb r2 h2 rfl rfl
      have n2 := n01.nO (kk := 22) (N := 7) hI1 hI0 hs0 rfl
      have w2 : Raw (nwo h1 22 7) (jsz h1 + 1) 22 := Raw.new hI1
      have hI2 := hI1.nO (k := 22) (N := 7) (by decide)
      refine useV0 (k_aggInit w2 (by simp only [jkd_wfi, jln_wfi, jfi_wfi, jfl_wfi, jfr_wfi, jai_wfi, jal_wfi, jar_wfi, jsz_wfi, jus_wfi, jkd_wfl, jln_wfl, jfi_wfl, jfl_wfl, jfr_wfl, jai_wfl, jal_wfl, jar_wfl, jsz_wfl, jus_wfl, jkd_wfr, jln_wfr, jfi_wfr, jfl_wfr, jfr_wfr, jai_wfr, jal_wfr, jar_wfr, jsz_wfr, jus_wfr, jkd_wai, jln_wai, jfi_wai, jfl_wai, jfr_wai, jai_wai, jal_wai, jar_wai, jsz_wai, jus_wai, jkd_wal, jln_wal, jfi_wal, jfl_wal, jfr_wal, jai_wal, jal_wal, jar_wal, jsz_wal, jus_wal, jkd_war, jln_war, jfi_war, jfl_war, jfr_war, jai_war, jal_war, jar_war, jsz_war, jus_war, jkd_nwo, jln_nwo, jfi_nwo, jfl_nwo, jfr_nwo, jai_nwo, jal_nwo, jar_nwo, jsz_nwo, jus_nwo, jkd_nwa, jln_nwa, jfi_nwa, jfl_nwa, jfr_nwa, jai_nwa, jal_nwa, jar_nwa, jsz_nwa, jus_nwa, jkd_cpa, jln_cpa, jfi_cpa, jfl_cpa, jfr_cpa, jai_cpa, jal_cpa, jar_cpa, jsz_cpa, jus_cpa]; exact hI1.zr (Nat.lt_succ_self _) 115) n2.1.2.2.2.1 (by cases b; exact jbo0; exact jbo1) (by omega)) ?_
      rintro h3 hI3 _ ⟨mk, c8, c5, e5, e6, e7, e8, e9⟩
      have hk2 : 20 ≤ jkd (nwo h1 22 7) (jsz h1 + 1) ∧ jkd (nwo h1 22 7) (jsz h1 + 1) ≤ 29 := by rw [w2.2.2.1]; decide
      have n3 := n2.mkL hI2 hI0 hs0 w2 (by decide) (by omega) mk fun q => by
        by_cases e : q = jsz h1 + 1
        · rw [e, e5]; exact Or.inr ha
        · exact Or.inl (e9 q e)
      have u2 := u1.nO (kk := 22) (N := 7)
      have ar3 : ArR h3 ρ arr l := (ar1.nO u1).mk u2.1 (by rw [w2.2.2.1]; decide) mk.1
      have hn3 : StR h3 nr nm := str_fresh hI2 (hn1.of (same_nwo (hn1.lt hI1).1) (same_nwo (hn1.lt hI1).2)) mk.1 hk2
      have nd := nod_agg (D := D) (k := if b = true then 1 else 0) (lo := lo) (ρ := ρ) (r := jsz h1 + 1) (Nat.succ_ne_zero _) (by rw [mk.2.2.2.2, w2.2.2.1]) (by rcases hb with z | z; exact Or.inl (by rw [z]; rfl); exact Or.inr z) c8 c5 ar3 e5 e6 (by rw [e7]; exact hn3) (by rw [e8]; cases b <;> rfl)
      have n4 := n3.node nd g1 (n2.1.rawNe w2)
      exact hQ _ h3 hI3 ⟨(pNode σ1 (3, if b = true then 1 else 0, nm, none, vNull, l, lo)).1, (pNode σ1 (3, if b = true then 1 else 0, nm, none, vNull, l, lo)).2, _, eq1, (rup_eq _ _ _).symm, n4.mono (by omega) (by omega), by omega⟩
    cases b with
    | true => exact ⟨fun _ => agg (Or.inl rfl), fun z => absurd z (by decide)⟩
    | false =>
      refine ⟨fun z => absurd rfl z, fun _ => useI0 (k_known hn1 (by omega)) ?_⟩
      rintro v h2 _ _ ⟨rfl, rfl⟩
      by_cases hg : tGather nm = true
      · rw [if_pos hg]
        exact ⟨fun z => absurd z (by decide), fun _ => agg (Or.inr hg)⟩
      · rw [if_neg hg]
        refine ⟨fun _ => ?_, fun z => absurd rfl z⟩
        rintro r3 h3 rfl rfl
        have n2 := n01.nO (kk := 23) (N := 5) hI1 hI0 hs0 rfl
        have w2 : Raw (nwo h2 23 5) (jsz h2 + 1) 23 := Raw.new hI1
        have hI2 := hI1.nO (k := 23) (N := 5) (by decide)
        refine JW.up (n := 4) (fun d => useV0 (k_callInit (d := d) w2) ?_) (by omega)
        rintro h3 hI3 _ ⟨mk, e5, e6, e7, e9⟩
        have hk2 : 20 ≤ jkd (nwo h2 23 5) (jsz h2 + 1) ∧ jkd (nwo h2 23 5) (jsz h2 + 1) ≤ 29 := by rw [w2.2.2.1]; decide
        have n3 := n2.mkL hI2 hI0 hs0 w2 (by decide) (by omega) (MkL.of hI2 mk n2.1.2.2.2.1 hk2) fun q => by
          by_cases e : q = jsz h2 + 1
          · rw [e, e5]; exact Or.inr ha
          · exact Or.inl (e9 q e)
        have u2 := u1.nO (kk := 23) (N := 5)
        have ar3 : ArR h3 ρ arr l := (ar1.nO u1).mk u2.1 (by rw [w2.2.2.1]; decide) mk.1
        have hn3 : StR h3 nr nm := str_fresh hI2 (hn1.of (same_nwo (hn1.lt hI1).1) (same_nwo (hn1.lt hI1).2)) mk.1 hk2
        have nd := nod_call (lo := lo) (ρ := ρ) mk w2 (Bool.eq_false_iff.mpr hg) ar3 e5 e6 (by rw [e7]; exact hn3)
        have n4 := n3.node nd g1 (n2.1.rawNe w2)
        exact hQ _ h3 hI3 ⟨(pNode σ1 (3, if false = true then 1 else 0, nm, none, vNull, l, lo)).1, (pNode σ1 (3, if false = true then 1 else 0, nm, none, vNull, l, lo)).2, _, eq1, (rup_eq _ _ _).symm, n4.mono (by omega) (by omega), by omega⟩
  · rintro y1 h1 hI1 _ ⟨er, e1, n1⟩
    exact hE y1 h1 hI1 ⟨er, by unfold fnS; rw [e1]; rfl, k.err n1⟩
end
