/-! expressions of the component: what each layer gives, operators -/
def XP (D : JD) (p s a base : Nat) (src : Str) (h : JH) (σ : PS) (ρ : Nat → Nat) (x : Except Nat (Nat × PS)) (v : Nat) (h' : JH) : Prop :=
  ∃ i σ' ρ', x = .ok (i, σ') ∧ v = ρ' i ∧ POk D p s a base src h h' σ σ' ρ ρ' (40 * (lp σ' - lp σ)) (1200 * (lp σ' - lp σ)) ∧ lp σ + 1 ≤ lp σ'
def XL (D : JD) (p s a base : Nat) (src : Str) (h : JH) (σ : PS) (ρ : Nat → Nat) (x : Except Nat (Nat × PS)) (v : Nat) (h' : JH) : Prop :=
  ∃ i σ' ρ', x = .ok (i, σ') ∧ v = ρ' i ∧ POk D p s a base src h h' σ σ' ρ ρ' (40 * (lp σ' - lp σ)) (1200 * (lp σ' - lp σ))
def XE {α : Type} (p s : Nat) (src : Str) (h : JH) (σ : PS) (x : Except Nat (α × PS)) (y : Nat) (h' : JH) : Prop := ∃ e, x = .error e ∧ PErr p s src h h' σ y e
def CX (D : JD) (p s a base : Nat) (src : Str) (n : Nat) : Prop := ∀ σ ρ h d, PsR D p s a base src h σ ρ → 31 ≤ n + psO σ → 11 * (30 - psO σ) + 20 ≤ d →
  cX17_expression D d p h (pR D h 55 (XP D p s a base src h σ ρ (pExpr true src n σ)) (XE p s src h σ (pExpr true src n σ)))
theorem ok_bind {ε α β : Type} {a : α} {f : α → Except ε β} : ((Except.ok a : Except ε α) >>= f) = f a := rfl
theorem er_bind {ε α β : Type} {e : ε} {f : α → Except ε β} : ((Except.error e : Except ε α) >>= f) = .error e := rfl
section
variable {D : JD} {p s a base : Nat} {src : Str} {h h' h'' h0 : JH} {σ σ' σ'' σ0 : PS} {ρ ρ' ρ'' ρ0 : Nat → Nat} {n m n' m' : Int} {d c r : Nat}
theorem POk.s0 (k : PsR D p s a base src h σ ρ) (hI : JInv D h) : s ≤ jsz h := (k.kinds hI).2.2.2.2.2.2.1
theorem PFr.nO {kk N : Nat} (f : PFr h0 h p s) (hI : JInv D h) (hI0 : JInv D h0) (hs : s ≤ jsz h0) : PFr h0 (nwo h kk N) p s :=
  f.fresh hI (r := jsz h + 1) (by have := f.2.2.2.1.1; omega) (fr_none (fr_nwo (Nat.le_refl _))) (Nat.le_succ _) hs hI0.refl (by rw [hI.new0 (Nat.lt_succ_self _)]; decide) hI0 fun _ => Or.inl rfl
theorem PFr.nA {kk N : Nat} (f : PFr h0 h p s) (hI : JInv D h) (hI0 : JInv D h0) (hs : s ≤ jsz h0) : PFr h0 (nwa h kk N) p s :=
  f.fresh hI (r := jsz h + 1) (by have := f.2.2.2.1.1; omega) (fr_none (fr_nwa (Nat.le_refl _))) (Nat.le_succ _) hs hI0.refl (by rw [hI.new0 (Nat.lt_succ_self _)]; decide) hI0 fun _ => Or.inl rfl
theorem POk.nO {kk N : Nat} (k : POk D p s a base src h0 h σ0 σ ρ0 ρ n m) (hI : JInv D h) (hI0 : JInv D h0) (hs : s ≤ jsz h0) (hk : (ckd kk || vkd kk) = false) : POk D p s a base src h0 (nwo h kk N) σ0 σ ρ0 ρ (n + 1) (m + N) :=
  ⟨k.1.nO hI kk N, k.2.1.nO hI hI0 hs, k.2.2.1, k.2.2.2.1.tr (Sp.nO hk), k.2.2.2.2⟩
theorem POk.nA {kk N : Nat} (k : POk D p s a base src h0 h σ0 σ ρ0 ρ n m) (hI : JInv D h) (hI0 : JInv D h0) (hs : s ≤ jsz h0) (hk : (ckd kk || vkd kk) = false) : POk D p s a base src h0 (nwa h kk N) σ0 σ ρ0 ρ (n + 1) (m + N) :=
  ⟨k.1.nA hI kk N, k.2.1.nA hI hI0 hs, k.2.2.1, k.2.2.2.1.tr (Sp.nA hk), k.2.2.2.2⟩
theorem POk.raw {kk : Nat} (k : POk D p s a base src h h' σ σ' ρ ρ' n m) (k0 : PsR D p s a base src h σ ρ) (hI : JInv D h) (w : Raw h r kk) (hk : 20 ≤ kk ∧ kk ≤ 29) : Raw h' r kk := w.pf hI hk k0.1.1 k0.s15.1 k.2.1
theorem POk.mkL {kk : Nat} {n1 m1 : Int} (k : POk D p s a base src h0 h σ0 σ ρ0 ρ n m) (hI : JInv D h) (hI0 : JInv D h0) (hs : s ≤ jsz h0) (w : Raw h r kk) (hk : 20 ≤ kk ∧ kk ≤ 29) (hr : jsz h0 < r) (l : MkL h h' r n1 m1) (h111 : ∀ q, jfr h' 111 q = jfr h 111 q ∨ jsz h0 < jfr h' 111 q) : POk D p s a base src h0 h' σ0 σ ρ0 ρ (n + n1) (m + m1) :=
  ⟨k.1.mkL hI w hk l, k.2.1.mkL hI hI0 w hk hr hs l h111, k.2.2.1, k.2.2.2.1.tr l.2.2.2.1, k.2.2.2.2⟩
/-- the node r is made and counted -/
theorem POk.node {nd : Nod} (k : POk D p s a base src h0 h σ0 σ ρ0 ρ n m) (kn : NodR D h ρ nd r) (g : Gd src (pNode σ nd).2) (hn : ∀ i, i < (psA σ).length → ρ i ≠ r) : POk D p s a base src h0 h σ0 (pNode σ nd).2 ρ0 (rup ρ (psA σ).length r) n m :=
  ⟨k.1.node kn g hn, k.2.1, k.2.2.1.tr RX.up k.2.2.2.2.1.len, k.2.2.2.1, k.2.2.2.2.1.tr ⟨rfl, Nat.le_refl _, fun z => z, Nat.le_refl _, fun z => z, [nd], rfl⟩, k.2.2.2.2.2⟩
/-- a pair over x and y -/
theorem w_pair {o k lo x y q vx vy : Nat} (ok : POk D p s a base src h0 h σ0 σ ρ0 ρ n m) (hI : JInv D h) (hI0 : JInv D h0) (hs : s ≤ jsz h0) (w : Raw h r 27) (hr : jsz h0 < r) (ho : o = 6 ∨ o = 9 ∨ o = 10 ∨ o = 11 ∨ o = 14) (g : Gd src (pNode σ (o, k, [], none, vNull, [x, y], lo)).2) (hx : vx = ρ x) (hy : vy = ρ y) (hq : q = jcs D (opN (o, k, [], none, vNull, [x, y], lo))) (hd : 3 ≤ d) :
    cX33_init D d r q vx vy h (pV D h (fun h' => POk D p s a base src h0 h' σ0 (pNode σ (o, k, [], none, vNull, [x, y], lo)).2 ρ0 (rup ρ (psA σ).length r) (n + 2) (m + 45)) no) := by
  refine JW.up (n := 3) (fun d => useV0 (k_pairInit (d := d) w) ?_) hd
  rintro h1 hI1 _ ⟨mk, e1, e2, e3, _, e4⟩
  exact (ok.mkL hI hI0 hs w (by decide) hr (MkL.of hI mk ok.1.2.2.2.1 (by rw [w.2.2.1]; decide)) fun q => Or.inl (e4 q)).node (nod_pair mk w ho (e1.trans hq) (e2.trans hx) (e3.trans hy)) g (ok.1.rawNe w)
theorem w_turned {o lo x vx : Nat} {v : Int32} (ok : POk D p s a base src h0 h σ0 σ ρ0 ρ n m) (hI : JInv D h) (hI0 : JInv D h0) (hs : s ≤ jsz h0) (w : Raw h r 26) (hr : jsz h0 < r) (ho : o = 12 ∨ o = 13) (g : Gd src (pNode σ (o, 0, [], none, vNull, [x], lo)).2) (hx : vx = ρ x) (hv : v = if o = 12 then 1 else 0) (hd : 3 ≤ d) :
    cX32_init D d r v vx h (pV D h (fun h' => POk D p s a base src h0 h' σ0 (pNode σ (o, 0, [], none, vNull, [x], lo)).2 ρ0 (rup ρ (psA σ).length r) (n + 2) (m + 45)) no) := by
  refine JW.up (n := 3) (fun d => useV0 (k_turnedInit (d := d) w (by rw [hv]; split; exact jbo1; exact jbo0)) ?_) hd
  rintro h1 hI1 _ ⟨mk, e1, e2, e4⟩
  exact (ok.mkL hI hI0 hs w (by decide) hr (MkL.of hI mk ok.1.2.2.2.1 (by rw [w.2.2.1]; decide)) fun q => Or.inl (e4 q)).node (nod_turned mk w ho (e1.trans hv) (e2.trans hx)) g (ok.1.rawNe w)
theorem PSg.pok (k : PSg D p s a base src h h' σ σ' ρ) : POk D p s a base src h h' σ σ' ρ ρ (16 * (lp σ' - lp σ)) (520 * (lp σ' - lp σ)) := k
/-- minus, over primary ones -/
def CP (D : JD) (p s a base : Nat) (src : Str) (rec : PS → Except Nat (Nat × PS)) (N : Nat) : Prop := ∀ σ ρ h d, PsR D p s a base src h σ ρ → N ≤ psO σ → 11 * (30 - psO σ) + 23 ≤ d →
  cX17_primary D d p h (pR D h 55 (XP D p s a base src h σ ρ (pPrimary rec true src σ)) (XE p s src h σ (pPrimary rec true src σ)))
theorem w_minus {rec : PS → Except Nat (Nat × PS)} {N : Nat} (hx : ∀ σ, Xz src (3 * (30 - psO σ)) σ (rec σ)) (hp : CP D p s a base src rec N) : ∀ f σ ρ h d, PsR D p s a base src h σ ρ → N ≤ psO σ → 31 ≤ f + psO σ → 11 * (30 - psO σ) + 24 ≤ d →
    cX17_minus D d p h (pR D h 55 (XP D p s a base src h σ ρ (pMinus rec true src f σ)) (XE p s src h σ (pMinus rec true src f σ)))
  | 0, σ, ρ, h, d, k, _, hf, _ => by
    have := k.2.2.2.2.2.1.2.2
    exfalso; omega
  | f + 1, σ, ρ, h, d, k, hN, hf, hd => by
    obtain ⟨e, rfl, he⟩ := dsucc hd
    refine JW.inv fun hI => t_X17_minus ⟨k.1.2.1, k.sg, ?_⟩
    rw [k.1.2.2.1]
    refine useI0 (w_is k "-" (by decide +kernel) (by omega)) ?_
    rintro v h1 _ _ ⟨rfl, rfl⟩
    by_cases hi : pIs σ "-" = true
    · rw [if_pos hi]
      refine ⟨fun _ => ?_, fun z => absurd z (by decide)⟩
      have eq0 : pMinus rec true src (f + 1) σ = (pEnter σ >>= fun q => pNext true src q.2 >>= fun q => pMinus rec true src f q.2 >>= fun q => .ok (pNode (pLeave q.2) (13, 0, [], none, vNull, [q.1], (psA σ).length))) := by
        conv => lhs; unfold pMinus
        dsimp only
        rw [if_neg (by rw [hi]; simp)]
      refine useV (w_enter k (by omega)) ?_ ?_
      · rintro h2 hI2 _ ⟨e1, h30, k2, f2, s2⟩
        have g30 := k.2.2.2.2.2.1.2.2
        refine ⟨k2.sg, ?_⟩
        rw [k2.1.2.2.1]
        refine useV (w_next k2 (is_k (σ := σ) hi) (by omega)) ?_ ?_
        · rintro h3 hI3 _ ⟨σ3, e3, n3, l3, q3⟩ r4 h4 rfl rfl
          have k3 := n3.1
          have n4 := n3.pok.nO (kk := 26) (N := 4) hI3 hI2 (POk.s0 k2 hI2) rfl
          have hI4 : JInv D (nwo h3 26 4) → True := fun _ => trivial
          refine JW.inv fun hI4 => ?_
          have w4 : Raw (nwo h3 26 4) (jsz h3 + 1) 26 := Raw.new hI3
          have o3 : psO σ3 = psO σ + 1 := by unfold psO; rw [q3]; rfl
          refine useR (w_minus hx hp f σ3 ρ _ _ n4.1 (by omega) (by omega) (by omega)) ?_ ?_
          · rintro v5 h5 hI5 _ ⟨i, σ5, ρ5, e5, rfl, n5, l5⟩
            have w5 := n5.raw n4.1 hI4 w4 (by decide)
            have eq1 : pMinus rec true src (f + 1) σ = .ok (pNode (pLeave σ5) (13, 0, [], none, vNull, [i], (psA σ).length)) := by
              rw [eq0, e1, ok_bind, e3, ok_bind, e5]; rfl
            have xz := x_minus hx (f + 1) σ k.2.2.2.2.2.1 _ eq1
            have lt3 : jsz h2 ≤ jsz h3 := n3.2.1.2.2.2.1.1
            -- the node is made one level down, then the level is left
            have n25 := n4.tr n5
            have hg5 : Gd src (pNode σ5 (13, 0, [], none, vNull, [i], (psA σ).length)).2 := by
              obtain ⟨x1, x2, _⟩ := xz
              exact ⟨x1.1, x1.2.1, n5.1.2.2.2.2.2.1.2.2⟩
            refine useV0 (w_turned n25 hI5 hI2 (POk.s0 k2 hI2) w5 (by omega) (Or.inr rfl) hg5 rfl rfl (by omega)) ?_
            rintro h6 hI6 _ n6 h7 rfl
            have k6 := n6.1
            have o6 : psO (pNode σ5 (13, 0, [], none, vNull, [i], (psA σ).length)).2 = psO σ + 1 := n6.2.2.2.2.1.1
            have k7 : PsR D p s a base src (wfi h6 80 p (jfi h6 80 p - 1)) (pNode (pLeave σ5) (13, 0, [], none, vNull, [i], (psA σ).length)).2 (rup ρ5 (psA σ5).length (jsz h3 + 1)) := by
              rw [k6.1.2.2.2.1, o6, nI_pred]
              refine k6.set hI6 (Or.inl rfl) rfl rfl ?_ ?_ ?_ xz.1 k6.2.2.2.2.2.2.1 k6.2.2.2.2.2.2.2.1
              · simp only [jkd_wfi, jln_wfi, jfi_wfi, jfl_wfi, jfr_wfi, jai_wfi, jal_wfi, jar_wfi, jsz_wfi, jus_wfi, jkd_wfl, jln_wfl, jfi_wfl, jfl_wfl, jfr_wfl, jai_wfl, jal_wfl, jar_wfl, jsz_wfl, jus_wfl, jkd_wfr, jln_wfr, jfi_wfr, jfl_wfr, jfr_wfr, jai_wfr, jal_wfr, jar_wfr, jsz_wfr, jus_wfr, jkd_wai, jln_wai, jfi_wai, jfl_wai, jfr_wai, jai_wai, jal_wai, jar_wai, jsz_wai, jus_wai, jkd_wal, jln_wal, jfi_wal, jfl_wal, jfr_wal, jai_wal, jal_wal, jar_wal, jsz_wal, jus_wal, jkd_war, jln_war, jfi_war, jfl_war, jfr_war, jai_war, jal_war, jar_war, jsz_war, jus_war, jkd_nwo, jln_nwo, jfi_nwo, jfl_nwo, jfr_nwo, jai_nwo, jal_nwo, jar_nwo, jsz_nwo, jus_nwo, jkd_nwa, jln_nwa, jfi_nwa, jfl_nwa, jfr_nwa, jai_nwa, jal_nwa, jar_nwa, jsz_nwa, jus_nwa, jkd_cpa, jln_cpa, jfi_cpa, jfl_cpa, jfr_cpa, jai_cpa, jal_cpa, jar_cpa, jsz_cpa, jus_cpa, and_self, if_true]
                rw [xz.2.1.1]
              · simp only [jkd_wfi, jln_wfi, jfi_wfi, jfl_wfi, jfr_wfi, jai_wfi, jal_wfi, jar_wfi, jsz_wfi, jus_wfi, jkd_wfl, jln_wfl, jfi_wfl, jfl_wfl, jfr_wfl, jai_wfl, jal_wfl, jar_wfl, jsz_wfl, jus_wfl, jkd_wfr, jln_wfr, jfi_wfr, jfl_wfr, jfr_wfr, jai_wfr, jal_wfr, jar_wfr, jsz_wfr, jus_wfr, jkd_wai, jln_wai, jfi_wai, jfl_wai, jfr_wai, jai_wai, jal_wai, jar_wai, jsz_wai, jus_wai, jkd_wal, jln_wal, jfi_wal, jfl_wal, jfr_wal, jai_wal, jal_wal, jar_wal, jsz_wal, jus_wal, jkd_war, jln_war, jfi_war, jfl_war, jfr_war, jai_war, jal_war, jar_war, jsz_war, jus_war, jkd_nwo, jln_nwo, jfi_nwo, jfl_nwo, jfr_nwo, jai_nwo, jal_nwo, jar_nwo, jsz_nwo, jus_nwo, jkd_nwa, jln_nwa, jfi_nwa, jfl_nwa, jfr_nwa, jai_nwa, jal_nwa, jar_nwa, jsz_nwa, jus_nwa, jkd_cpa, jln_cpa, jfi_cpa, jfl_cpa, jfr_cpa, jai_cpa, jal_cpa, jar_cpa, jsz_cpa, jus_cpa, Nat.reduceEqDiff, false_and, if_false]; exact k6.1.2.2.2.2.1
              · simp only [jkd_wfi, jln_wfi, jfi_wfi, jfl_wfi, jfr_wfi, jai_wfi, jal_wfi, jar_wfi, jsz_wfi, jus_wfi, jkd_wfl, jln_wfl, jfi_wfl, jfl_wfl, jfr_wfl, jai_wfl, jal_wfl, jar_wfl, jsz_wfl, jus_wfl, jkd_wfr, jln_wfr, jfi_wfr, jfl_wfr, jfr_wfr, jai_wfr, jal_wfr, jar_wfr, jsz_wfr, jus_wfr, jkd_wai, jln_wai, jfi_wai, jfl_wai, jfr_wai, jai_wai, jal_wai, jar_wai, jsz_wai, jus_wai, jkd_wal, jln_wal, jfi_wal, jfl_wal, jfr_wal, jai_wal, jal_wal, jar_wal, jsz_wal, jus_wal, jkd_war, jln_war, jfi_war, jfl_war, jfr_war, jai_war, jal_war, jar_war, jsz_war, jus_war, jkd_nwo, jln_nwo, jfi_nwo, jfl_nwo, jfr_nwo, jai_nwo, jal_nwo, jar_nwo, jsz_nwo, jus_nwo, jkd_nwa, jln_nwa, jfi_nwa, jfl_nwa, jfr_nwa, jai_nwa, jal_nwa, jar_nwa, jsz_nwa, jus_nwa, jkd_cpa, jln_cpa, jfi_cpa, jfl_cpa, jfr_cpa, jai_cpa, jal_cpa, jar_cpa, jsz_cpa, jus_cpa, Nat.reduceEqDiff, false_and, if_false]; exact k6.1.2.2.2.2.2
            have lpe : lp (pNode (pLeave σ5) (13, 0, [], none, vNull, [i], (psA σ).length)).2 = lp σ5 := lp_eq rfl
            have lp2 : lp ((psT σ, psO σ + 1, σ.2.2) : PS) = lp σ := lp_eq rfl
            have hln : (psA σ).length ≤ (psA σ5).length := n25.2.2.2.2.1.len
            refine endR fun _ _ _ => ⟨(pNode (pLeave σ5) (13, 0, [], none, vNull, [i], (psA σ).length)).1, (pNode (pLeave σ5) (13, 0, [], none, vNull, [i], (psA σ).length)).2, rup ρ5 (psA σ5).length (jsz h3 + 1), eq1, (rup_eq _ _ _).symm, ⟨k7, (f2.tr n6.2.1).tr (PFr.fi _ hI6 k6.1.1), n25.2.2.1.tr RX.up hln, ((s2.tr n6.2.2.2.1).tr Sp.fi).mono ?_ ?_, xz.2.1, ?_⟩, ?_⟩
            · rw [lpe]; omega
            · rw [lpe]; omega
            · rw [lpe]; omega
            · rw [lpe]; omega
          · rintro y h5 hI5 _ ⟨er, e5, n5⟩
            refine endX fun _ _ => ⟨er, by rw [eq0, e1, ok_bind, e3, ok_bind, e5]; rfl, ?_⟩
            have lp2 : lp ((psT σ, psO σ + 1, σ.2.2) : PS) = lp σ := lp_eq rfl
            have := n4.err (by omega) (by omega) n5
            exact ⟨this.1, f2.tr this.2.1, (s2.tr this.2.2.1).mono (by omega) (by omega), by have := this.2.2.2; omega⟩
        · rintro y h3 hI3 _ ⟨er, e3, n3⟩
          refine endX fun _ _ => ⟨er, by rw [eq0, e1, ok_bind, e3]; rfl, ?_⟩
          have lp2 : lp ((psT σ, psO σ + 1, σ.2.2) : PS) = lp σ := lp_eq rfl
          have n3 := n3.up
          exact ⟨n3.1, f2.tr n3.2.1, (s2.tr n3.2.2.1).mono (by omega) (by omega), by have := n3.2.2.2; omega⟩
      · rintro y h2 hI2 _ ⟨er, e1, n1⟩
        exact endX fun _ _ => ⟨er, by rw [eq0, e1]; rfl, n1.up⟩
    · rw [if_neg hi]
      refine ⟨fun z => absurd rfl z, fun _ => ?_⟩
      have eq0 : pMinus rec true src (f + 1) σ = pPrimary rec true src σ := by
        conv => lhs; unfold pMinus
        dsimp only
        rw [if_pos (by rw [Bool.eq_false_iff.mpr hi]; rfl)]
      rw [eq0]
      refine useR (hp σ ρ _ e k hN (by omega)) ?_ ?_
      · rintro v2 h2 hI2 _ x
        exact endR fun _ _ _ => x
      · rintro y h2 hI2 _ x
        exact endX fun _ _ => x
end
