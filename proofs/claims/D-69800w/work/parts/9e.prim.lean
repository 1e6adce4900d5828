/-! expressions of the component: literals, names, primary ones; the whole -/
section
variable {D : JD} {p s a base : Nat} {src : Str} {h h' h'' h0 : JH} {σ σ' σ'' σ0 : PS} {ρ ρ' ρ'' ρ0 : Nat → Nat} {n m n' m' : Int} {d c r : Nat}
theorem cel_pf {v : Val} (hI : JInv D h) (o : OW h) (hp : jkd h p = 14) (hs : jkd h s = 15) (f : PFr h h' p s) (hk : jkd h c = 101) (hc : Cel D h c v) : Cel D h' c v ∧ jkd h' c = 101 := by
  have hl := hc.1.lt hI
  have sc : same h h' c := by
    refine f.1 c hl.1 ?_
    rintro (z | z | z | z | z)
    · rw [z, hp] at hk; omega
    · rw [z, hs] at hk; omega
    · rw [z, hI.ref (F := 90) (k := 100) (by decide +kernel) (z ▸ hc.1.1)] at hk; omega
    · rw [z, hI.ref (F := 67) (k := 144) (by decide +kernel) (z ▸ hc.1.1)] at hk; omega
    · omega
  refine ⟨hc.of sc fun h0 => ?_, by rw [sc.kd]; exact hk⟩
  have t4 := hI.ref (F := 67) (k := 144) (r := c) (by decide +kernel) h0
  refine f.1 _ hl.2 ?_
  rintro (z | z | z | z | z)
  · rw [z, hp] at t4; omega
  · rw [z, hs] at t4; omega
  · rw [z, hI.ref (F := 90) (k := 100) (by decide +kernel) (z ▸ h0)] at t4; omega
  · have := o 67 _ _ (Or.inl rfl) z h0
    rw [this, hI.ref (F := 90) (k := 100) (by decide +kernel) (this ▸ hc.1.1)] at hk; omega
  · omega
theorem POk.cel (k : POk D p s a base src h0 h σ0 σ ρ0 ρ n m) (hI : JInv D h) (hI' : JInv D h') (hI0 : JInv D h0) (hf : CelF h h' c) (hk : jkd h c = 101) (hc : jsz h0 < c) (ht : jfr h 67 c = 0 ∨ jsz h0 < jfr h 67 c) (hw : CelW D h' c) : POk D p s a base src h0 h' σ0 σ ρ0 ρ n m :=
  ⟨k.1.cel hI hf hk, k.2.1.cel hI hI' hf hk hc ht hI0.refl, k.2.2.1, (k.2.2.2.1.tr (hf.sp hI hI' (by rw [hk]; decide) hw.1 hw)).mono (by omega) (by omega), k.2.2.2.2⟩
def hC (D : JD) (h : JH) : JH := wfi (wfr (nwo h 101 5) 64 (jsz h + 1) (jcs D 345)) 65 (jsz h + 1) 1
theorem POk.newC (k : PsR D p s a base src h σ ρ) (hI : JInv D h) : POk D p s a base src h (hC D h) σ σ ρ ρ 2 45 ∧ Cel D (hC D h) (jsz h + 1) vNull ∧ jkd (hC D h) (jsz h + 1) = 101 ∧ jfr (hC D h) 67 (jsz h + 1) = 0 := by
  have f : fr (jsz h) (fun q => q = jsz h + 1) h (hC D h) := ((fr_nwo (M := fun q => q = jsz h + 1) (Nat.le_refl _)).tr (fr_wfr (Or.inl rfl))).tr (fr_wfi (Or.inl rfl))
  have e67 : jfr (hC D h) 67 (jsz h + 1) = 0 := by
    simp only [hC, jkd_wfi, jln_wfi, jfi_wfi, jfl_wfi, jfr_wfi, jai_wfi, jal_wfi, jar_wfi, jsz_wfi, jus_wfi, jkd_wfl, jln_wfl, jfi_wfl, jfl_wfl, jfr_wfl, jai_wfl, jal_wfl, jar_wfl, jsz_wfl, jus_wfl, jkd_wfr, jln_wfr, jfi_wfr, jfl_wfr, jfr_wfr, jai_wfr, jal_wfr, jar_wfr, jsz_wfr, jus_wfr, jkd_wai, jln_wai, jfi_wai, jfl_wai, jfr_wai, jai_wai, jal_wai, jar_wai, jsz_wai, jus_wai, jkd_wal, jln_wal, jfi_wal, jfl_wal, jfr_wal, jai_wal, jal_wal, jar_wal, jsz_wal, jus_wal, jkd_war, jln_war, jfi_war, jfl_war, jfr_war, jai_war, jal_war, jar_war, jsz_war, jus_war, jkd_nwo, jln_nwo, jfi_nwo, jfl_nwo, jfr_nwo, jai_nwo, jal_nwo, jar_nwo, jsz_nwo, jus_nwo, jkd_nwa, jln_nwa, jfi_nwa, jfl_nwa, jfr_nwa, jai_nwa, jal_nwa, jar_nwa, jsz_nwa, jus_nwa, jkd_cpa, jln_cpa, jfi_cpa, jfl_cpa, jfr_cpa, jai_cpa, jal_cpa, jar_cpa, jsz_cpa, jus_cpa, Nat.reduceEqDiff, false_and, if_false]; exact hI.zr (Nat.lt_succ_self _) 67
  have e65 : jfi (hC D h) 65 (jsz h + 1) = 1 := by simp only [hC, jkd_wfi, jln_wfi, jfi_wfi, jfl_wfi, jfr_wfi, jai_wfi, jal_wfi, jar_wfi, jsz_wfi, jus_wfi, jkd_wfl, jln_wfl, jfi_wfl, jfl_wfl, jfr_wfl, jai_wfl, jal_wfl, jar_wfl, jsz_wfl, jus_wfl, jkd_wfr, jln_wfr, jfi_wfr, jfl_wfr, jfr_wfr, jai_wfr, jal_wfr, jar_wfr, jsz_wfr, jus_wfr, jkd_wai, jln_wai, jfi_wai, jfl_wai, jfr_wai, jai_wai, jal_wai, jar_wai, jsz_wai, jus_wai, jkd_wal, jln_wal, jfi_wal, jfl_wal, jfr_wal, jai_wal, jal_wal, jar_wal, jsz_wal, jus_wal, jkd_war, jln_war, jfi_war, jfl_war, jfr_war, jai_war, jal_war, jar_war, jsz_war, jus_war, jkd_nwo, jln_nwo, jfi_nwo, jfl_nwo, jfr_nwo, jai_nwo, jal_nwo, jar_nwo, jsz_nwo, jus_nwo, jkd_nwa, jln_nwa, jfi_nwa, jfl_nwa, jfr_nwa, jai_nwa, jal_nwa, jar_nwa, jsz_nwa, jus_nwa, jkd_cpa, jln_cpa, jfi_cpa, jfl_cpa, jfr_cpa, jai_cpa, jal_cpa, jar_cpa, jsz_cpa, jus_cpa, and_self, if_true]
  have ek : jkd (hC D h) (jsz h + 1) = 101 := by simp only [hC, jkd_wfi, jln_wfi, jfi_wfi, jfl_wfi, jfr_wfi, jai_wfi, jal_wfi, jar_wfi, jsz_wfi, jus_wfi, jkd_wfl, jln_wfl, jfi_wfl, jfl_wfl, jfr_wfl, jai_wfl, jal_wfl, jar_wfl, jsz_wfl, jus_wfl, jkd_wfr, jln_wfr, jfi_wfr, jfl_wfr, jfr_wfr, jai_wfr, jal_wfr, jar_wfr, jsz_wfr, jus_wfr, jkd_wai, jln_wai, jfi_wai, jfl_wai, jfr_wai, jai_wai, jal_wai, jar_wai, jsz_wai, jus_wai, jkd_wal, jln_wal, jfi_wal, jfl_wal, jfr_wal, jai_wal, jal_wal, jar_wal, jsz_wal, jus_wal, jkd_war, jln_war, jfi_war, jfl_war, jfr_war, jai_war, jal_war, jar_war, jsz_war, jus_war, jkd_nwo, jln_nwo, jfi_nwo, jfl_nwo, jfr_nwo, jai_nwo, jal_nwo, jar_nwo, jsz_nwo, jus_nwo, jkd_nwa, jln_nwa, jfi_nwa, jfl_nwa, jfr_nwa, jai_nwa, jal_nwa, jar_nwa, jsz_nwa, jus_nwa, jkd_cpa, jln_cpa, jfi_cpa, jfl_cpa, jfr_cpa, jai_cpa, jal_cpa, jar_cpa, jsz_cpa, jus_cpa, if_true]
  have ow : OW (hC D h) := k.2.2.2.1.eq fun F q hF => by
    rcases hF with rfl | rfl | rfl <;> simp only [hC, jkd_wfi, jln_wfi, jfi_wfi, jfl_wfi, jfr_wfi, jai_wfi, jal_wfi, jar_wfi, jsz_wfi, jus_wfi, jkd_wfl, jln_wfl, jfi_wfl, jfl_wfl, jfr_wfl, jai_wfl, jal_wfl, jar_wfl, jsz_wfl, jus_wfl, jkd_wfr, jln_wfr, jfi_wfr, jfl_wfr, jfr_wfr, jai_wfr, jal_wfr, jar_wfr, jsz_wfr, jus_wfr, jkd_wai, jln_wai, jfi_wai, jfl_wai, jfr_wai, jai_wai, jal_wai, jar_wai, jsz_wai, jus_wai, jkd_wal, jln_wal, jfi_wal, jfl_wal, jfr_wal, jai_wal, jal_wal, jar_wal, jsz_wal, jus_wal, jkd_war, jln_war, jfi_war, jfl_war, jfr_war, jai_war, jal_war, jar_war, jsz_war, jus_war, jkd_nwo, jln_nwo, jfi_nwo, jfl_nwo, jfr_nwo, jai_nwo, jal_nwo, jar_nwo, jsz_nwo, jus_nwo, jkd_nwa, jln_nwa, jfi_nwa, jfl_nwa, jfr_nwa, jai_nwa, jal_nwa, jar_nwa, jsz_nwa, jus_nwa, jkd_cpa, jln_cpa, jfi_cpa, jfl_cpa, jfr_cpa, jai_cpa, jal_cpa, jar_cpa, jsz_cpa, jus_cpa, Nat.reduceEqDiff, false_and, if_false]
  refine ⟨⟨k.fresh hI f (Or.inr (Nat.lt_succ_self _)) ow, (PFr.rf h p s).fresh hI (Nat.lt_succ_self _) f (Nat.le_succ _) (POk.s0 k hI) hI.refl (by rw [hI.new0 (Nat.lt_succ_self _)]; decide) hI fun q => Or.inl ?_, RX.rf _ _, ((Sp.nC.tr (Sp.fr (Or.inl ⟨by decide, by decide⟩))).tr Sp.fi).mono (by omega) (by omega), Le.rf _, Int.le_refl _⟩, ⟨⟨Nat.succ_ne_zero _, by rw [ek]; decide, by rw [ek]; decide, Or.inr e65, Or.inl e67⟩, Or.inl ⟨rfl, e65⟩⟩, ek, e67⟩
  simp only [hC, jkd_wfi, jln_wfi, jfi_wfi, jfl_wfi, jfr_wfi, jai_wfi, jal_wfi, jar_wfi, jsz_wfi, jus_wfi, jkd_wfl, jln_wfl, jfi_wfl, jfl_wfl, jfr_wfl, jai_wfl, jal_wfl, jar_wfl, jsz_wfl, jus_wfl, jkd_wfr, jln_wfr, jfi_wfr, jfl_wfr, jfr_wfr, jai_wfr, jal_wfr, jar_wfr, jsz_wfr, jus_wfr, jkd_wai, jln_wai, jfi_wai, jfl_wai, jfr_wai, jai_wai, jal_wai, jar_wai, jsz_wai, jus_wai, jkd_wal, jln_wal, jfi_wal, jfl_wal, jfr_wal, jai_wal, jal_wal, jar_wal, jsz_wal, jus_wal, jkd_war, jln_war, jfi_war, jfl_war, jfr_war, jai_war, jal_war, jar_war, jsz_war, jus_war, jkd_nwo, jln_nwo, jfi_nwo, jfl_nwo, jfr_nwo, jai_nwo, jal_nwo, jar_nwo, jsz_nwo, jus_nwo, jkd_nwa, jln_nwa, jfi_nwa, jfl_nwa, jfr_nwa, jai_nwa, jal_nwa, jar_nwa, jsz_nwa, jus_nwa, jkd_cpa, jln_cpa, jfi_cpa, jfl_cpa, jfr_cpa, jai_cpa, jal_cpa, jar_cpa, jsz_cpa, jus_cpa, Nat.reduceEqDiff, false_and, if_false]
theorem nod_lit {v : Val} {lo : Nat} (hr : r ≠ 0) (hk : jkd h r = 25) (e1 : jfr h 109 r = tyc D v.1) (e2 : Cel D h (jfr h 108 r) v) : NodR D h ρ (0, 0, [], none, v, [], lo) r := by
  refine ⟨hr, by rw [hk]; rfl, e2.1, fun e => ⟨e1, e2⟩, fun e => ?_, fun e => ?_, fun e => ?_, fun e => ?_, fun e => ?_, fun e => ?_, fun e => ?_, fun e => ?_, fun e => ?_⟩
  all_goals (exfalso; (have e' := e; simp only [ndO] at e'; omega))
def ltS (src : Str) (lo : Nat) (v : Val) (σ : PS) : Except Nat (Nat × PS) := (pNext true src σ).map fun q => pNode q.2 (0, 0, [], none, v, [], lo)
/-- the sign is passed over, the literal is made -/
theorem w_lit {v : Val} {lo : Nat} (Q : JO → JH → Prop) (k : POk D p s a base src h0 h σ σ ρ ρ 2 45) (hI : JInv D h) (hI0 : JInv D h0) (hs0 : s ≤ jsz h0) (hc : Cel D h c v) (hk : jkd h c = 101) (hkk : tkK (psT σ) ≠ 0) (hd : 10 ≤ d) (hG : ∀ i σ', ltS src lo v σ = .ok (i, σ') → Gd src σ')
    (hQ : ∀ w h', JInv D h' → XP D p s a base src h0 σ ρ (ltS src lo v σ) w h' → Q (.inl (some (vR 55 w))) h') (hE : ∀ y h', JInv D h' → XE p s src h0 σ (ltS src lo v σ) y h' → Q (.inr y) h') : W_X17_primary_146 D d Q p c h := by
  refine ⟨k.1.1.2.1, k.1.sg, ?_⟩
  rw [k.1.1.2.2.1]
  refine useV (w_next k.1 hkk hd) ?_ ?_
  · rintro h1 hI1 _ ⟨σ1, e1, n1, l1, q1⟩ r2 h2 rfl rfl
    have n01 := k.tr n1
    obtain ⟨hc1, hk1⟩ := cel_pf hI k.1.2.2.2.1 k.1.1.1 k.1.s15.1 n1.2.1 hk hc
    have n2 := n01.nO (kk := 25) (N := 2) hI1 hI0 hs0 rfl
    have w2 : Raw (nwo h1 25 2) (jsz h1 + 1) 25 := Raw.new hI1
    have hI2 := hI1.nO (k := 25) (N := 2) (by decide)
    have hl1 := hc1.1.lt hI1
    have hc2 : Cel D (nwo h1 25 2) c v := hc1.of (same_nwo hl1.1) fun _ => same_nwo hl1.2
    have hk2 : jkd (nwo h1 25 2) c = 101 := by rw [(same_nwo (h := h1) (k := 25) (n := 2) hl1.1).kd]; exact hk1
    have lt1 : jsz h0 ≤ jsz h1 := n01.2.1.2.2.2.1.1
    refine useV0 (k_litInit w2 hc2 hk2 n2.1.2.2.2.1 hd) ?_
    rintro h3 hI3 _ ⟨mk, e5, e6, e7⟩
    have eq1 : ltS src lo v σ = .ok (pNode σ1 (0, 0, [], none, v, [], lo)) := by unfold ltS; rw [e1]; rfl
    have n3 := n2.mkL hI2 hI0 hs0 w2 (by decide) (by omega) mk fun q => Or.inl (e7 q)
    have n4 := n3.node (nod_lit (lo := lo) (ρ := ρ) (Nat.succ_ne_zero _) (by rw [mk.2.2.2.2, w2.2.2.1]) e5 e6) (hG _ _ eq1) (n2.1.rawNe w2)
    have lp4 : lp (pNode σ1 (0, 0, [], none, v, [], lo)).2 = lp σ1 := lp_eq rfl
    exact hQ _ h3 hI3 ⟨(pNode σ1 (0, 0, [], none, v, [], lo)).1, (pNode σ1 (0, 0, [], none, v, [], lo)).2, _, eq1, (rup_eq _ _ _).symm, n4.mono (by omega) (by omega), by omega⟩
  · rintro y1 h1 hI1 _ ⟨er, e1, n1⟩
    exact hE y1 h1 hI1 ⟨er, by unfold ltS; rw [e1]; rfl, k.errC (by omega) (by omega) rfl n1⟩
theorem w_col {w1 : Str} {o : Option Str} {lo x y : Nat} (ok : POk D p s a base src h0 h σ0 σ ρ0 ρ n m) (hI : JInv D h) (hI0 : JInv D h0) (hs : s ≤ jsz h0) (w : Raw h r 24) (hr : jsz h0 < r) (g : Gd src (pNode σ (2, 0, w1, o, vNull, [], lo)).2) (hy : StR h y w1) (hx : OStR h x o) (hd : 3 ≤ d) :
    cX30_init D d r x y h (pV D h (fun h' => POk D p s a base src h0 h' σ0 (pNode σ (2, 0, w1, o, vNull, [], lo)).2 ρ0 (rup ρ (psA σ).length r) (n + 2) (m + 45)) no) := by
  refine JW.up (n := 3) (fun d => useV0 (k_colInit (d := d) w) ?_) hd
  rintro h1 hI1 _ ⟨mk, e1, e2, e4⟩
  have hk : 20 ≤ jkd h r ∧ jkd h r ≤ 29 := by rw [w.2.2.1]; decide
  refine (ok.mkL hI hI0 hs w (by decide) hr (MkL.of hI mk ok.1.2.2.2.1 hk) fun q => Or.inl (e4 q)).node (nod_col mk w (by rw [e2]; exact str_fresh hI hy mk.1 hk) ?_) g (ok.1.rawNe w)
  rw [e1]
  cases o with
  | none => exact hx
  | some u => exact str_fresh hI hx mk.1 hk
/-- what a name begins -/
def nmS (rec : PS → Except Nat (Nat × PS)) (src : Str) (lo : Nat) (σ : PS) : Except Nat (Nat × PS) :=
  pName true src σ >>= fun q => if pIs q.2 "(" = true then pNext true src q.2 >>= fun t => clS rec src lo q.1 t.2 else if pIs q.2 "." = true then pNext true src q.2 >>= fun t => pName true src t.2 >>= fun w => .ok (pNode w.2 (2, 0, w.1, some q.1, vNull, [], lo)) else .ok (pNode q.2 (2, 0, q.1, none, vNull, [], lo))
theorem prim_nm {rec : PS → Except Nat (Nat × PS)} (k3 : tkK (psT σ) ≠ 3) (k4 : tkK (psT σ) ≠ 4) (k5 : tkK (psT σ) ≠ 5) (it : pIs σ "true" = false) (if_ : pIs σ "false" = false) (inl : pIs σ "null" = false) (ic : pIs σ "case" = false) (ip : pIs σ "(" = false) : pPrimary rec true src σ = nmS rec src (psA σ).length σ := by
  unfold pPrimary
  dsimp only
  rw [if_neg (by simpa using k3), if_neg (by simpa using k4), if_neg (by simpa using k5), if_neg (by rw [it, if_]; simp), if_neg (by rw [inl]; simp), if_neg (by rw [ic]; simp), if_neg (by rw [ip]; simp)]
  rfl
theorem prim_lit {rec : PS → Except Nat (Nat × PS)} (k3 : tkK (psT σ) ≠ 3) (k4 : tkK (psT σ) ≠ 4) (k5 : tkK (psT σ) ≠ 5) (it : (pIs σ "true" || pIs σ "false") = true) : pPrimary rec true src σ = ltS src (psA σ).length (vBool (pIs σ "true")) σ := by
  unfold pPrimary
  dsimp only
  rw [if_neg (by simpa using k3), if_neg (by simpa using k4), if_neg (by simpa using k5), if_pos it]
  rfl
theorem prim_nul {rec : PS → Except Nat (Nat × PS)} (k3 : tkK (psT σ) ≠ 3) (k4 : tkK (psT σ) ≠ 4) (k5 : tkK (psT σ) ≠ 5) (it : (pIs σ "true" || pIs σ "false") = false) (inl : pIs σ "null" = true) : pPrimary rec true src σ = ltS src (psA σ).length vNull σ := by
  unfold pPrimary
  dsimp only
  rw [if_neg (by simpa using k3), if_neg (by simpa using k4), if_neg (by simpa using k5), if_neg (by rw [it]; simp), if_pos inl]
  rfl
theorem prim_cas {rec : PS → Except Nat (Nat × PS)} (k3 : tkK (psT σ) ≠ 3) (k4 : tkK (psT σ) ≠ 4) (k5 : tkK (psT σ) ≠ 5) (it : (pIs σ "true" || pIs σ "false") = false) (inl : pIs σ "null" = false) (ic : pIs σ "case" = true) : pPrimary rec true src σ = (pNext true src σ >>= fun q => pCases rec true src (psA σ).length q.2) := by
  unfold pPrimary
  dsimp only
  rw [if_neg (by simpa using k3), if_neg (by simpa using k4), if_neg (by simpa using k5), if_neg (by rw [it]; simp), if_neg (by rw [inl]; simp), if_pos ic]
  rfl
theorem w_named {N : Nat} {rec : PS → Except Nat (Nat × PS)} (hx : ∀ σ, Xz src (3 * (30 - psO σ)) σ (rec σ)) (hr : CXr D p s a base src rec N) (k : POk D p s a base src h0 h σ σ ρ ρ 2 45) (hI0 : JInv D h0) (hs0 : s ≤ jsz h0) (hc : Cel D h c vNull) (hk : jkd h c = 101) (hc0 : jsz h0 < c) (ht : jfr h 67 c = 0) (k3 : tkK (psT σ) ≠ 3) (k4 : tkK (psT σ) ≠ 4) (k5 : tkK (psT σ) ≠ 5) (ip : pIs σ "(" = false) (hN : N ≤ psO σ) (hd : 11 * (30 - psO σ) + 22 ≤ d) :
    cX17_named D d p c h (pR D h 55 (XP D p s a base src h0 σ ρ (pPrimary rec true src σ)) (XE p s src h0 σ (pPrimary rec true src σ))) := by
  obtain ⟨e, rfl, he⟩ := dsucc hd
  have g := k.1.2.2.2.2.2.1
  have hG : ∀ i σ', pPrimary rec true src σ = .ok (i, σ') → Gd src σ' := fun i σ' ee => (x_primary (K := 3 * (30 - psO σ)) (o := psO σ) (fun τ ho => by rw [← ho]; exact hx τ) σ rfl g _ ee).1
  refine JW.inv fun hI => t_X17_named ⟨k.1.1.2.1, k.1.sg, ?_⟩
  rw [k.1.1.2.2.1]
  -- TRUE and FALSE
  have bool26 : (pIs σ "true" || pIs σ "false") = true → W_X17_named_26 D e (pR D h 55 (XP D p s a base src h0 σ ρ (pPrimary rec true src σ)) (XE p s src h0 σ (pPrimary rec true src σ))) p c h := by
    intro ib
    have hk0 : tkK (psT σ) ≠ 0 := fun z => by
      have hk0 : ∀ s, pIs σ s = false := fun s => by unfold pIs; rw [z]; rfl
      rw [hk0, hk0] at ib; cases ib
    rw [prim_lit k3 k4 k5 ib] at hG ⊢
    refine ⟨k.1.1.2.1, k.1.sg, ?_⟩
    rw [k.1.1.2.2.1]
    refine useI0 (w_isWord k.1 "true" (by decide +kernel) (by omega)) ?_
    rintro v1 h1 _ _ ⟨rfl, rfl⟩
    refine ⟨hc.1.1, JW.up (n := 1) (fun d => useR0 (k_cTruth (d := d) hc.1) ?_) (by omega)⟩
    rintro v2 h2 hI2 _ ⟨_, c2, f2⟩
    have ev : vBool (decide ((if pIs σ "true" = true then (1 : Int32) else 0) ≠ 0)) = vBool (pIs σ "true") := by cases pIs σ "true" <;> rfl
    rw [ev] at c2
    have n2 := k.cel hI hI2 hI0 f2 hk hc0 (Or.inl ht) c2.1
    exact w_lit (d := e) _ n2 hI2 hI0 hs0 c2 (by rw [f2.2.2.2.2.2.2.1]; exact hk) hk0 (by omega) hG (fun w h' _ x => endR fun _ _ _ => x) (fun y h' _ x => endX fun _ _ => x)
  refine useI0 (w_isWord k.1 "true" (by decide +kernel) (by omega)) ?_
  rintro v1 h1 _ _ ⟨rfl, rfl⟩
  by_cases it : pIs σ "true" = true
  · rw [if_pos it]; exact ⟨fun _ => bool26 (by rw [it]; rfl), fun z => absurd z (by decide)⟩
  rw [if_neg it]
  have it := Bool.eq_false_iff.mpr it
  refine ⟨fun z => absurd rfl z, fun _ => ⟨k.1.sg, ?_⟩⟩
  rw [k.1.1.2.2.1]
  refine useI0 (w_isWord k.1 "false" (by decide +kernel) (by omega)) ?_
  rintro v2 h2 _ _ ⟨rfl, rfl⟩
  by_cases iff_ : pIs σ "false" = true
  · rw [if_pos iff_]; exact ⟨fun z => absurd z (by decide), fun _ => bool26 (by rw [iff_]; simp)⟩
  rw [if_neg iff_]
  have iff_ := Bool.eq_false_iff.mpr iff_
  have itf : (pIs σ "true" || pIs σ "false") = false := by rw [it, iff_]; rfl
  refine ⟨fun _ => ⟨k.1.sg, ?_⟩, fun z => absurd rfl z⟩
  rw [k.1.1.2.2.1]
  refine useI (w_takesWord k.1 "case" (by decide +kernel) (by omega)) ?_ ?_
  · rintro v3 h3 hI3 _ ⟨b, σ3, e3, rfl, n3, q3, t3, f3⟩
    cases b with
    | true =>
      obtain ⟨ic, en, l3⟩ := t3 rfl
      refine ⟨fun z => absurd z (by decide), fun _ => ?_⟩
      have inl := is_ne (b := "null") ic (by decide)
      have o3 : psO σ3 = psO σ := n3.2.2.2.2.1.1
      have n03 := k.tr n3
      rw [prim_cas k3 k4 k5 itf inl ic, en, ok_bind] at hG ⊢
      refine useR (w_cases hx hr (n03.mono (by omega) (by omega)) (n03.2.2.2.1.mono (by omega) (by omega)) hI0 hs0 (by omega) (by omega) hG) ?_ ?_
      · rintro v4 h4 hI4 _ ⟨i, σ4, ρ4, e4, hv4, n4, l4⟩
        exact endR fun _ _ _ => ⟨i, σ4, ρ4, e4, hv4, n4, by omega⟩
      · rintro y4 h4 hI4 _ x
        exact endX fun _ _ => x
    | false =>
      obtain ⟨ic, rfl, rfl⟩ := f3 rfl
      refine ⟨fun _ => ⟨k.1.sg, ?_⟩, fun z => absurd rfl z⟩
      rw [k.1.1.2.2.1]
      refine useI0 (w_isWord k.1 "null" (by decide +kernel) (by omega)) ?_
      rintro v4 h4 _ _ ⟨rfl, rfl⟩
      by_cases inl : pIs σ3 "null" = true
      · rw [if_pos inl]
        refine ⟨fun _ => ?_, fun z => absurd z (by decide)⟩
        rw [prim_nul k3 k4 k5 itf inl] at hG ⊢
        exact w_lit (d := e) _ k hI hI0 hs0 hc hk (is_k inl) (by omega) hG (fun w h' _ x => endR fun _ _ _ => x) (fun y h' _ x => endX fun _ _ => x)
      · rw [if_neg inl]
        have inl := Bool.eq_false_iff.mpr inl
        refine ⟨fun z => absurd rfl z, fun _ => ⟨k.1.sg, ?_⟩⟩
        rw [k.1.1.2.2.1]
        rw [prim_nm k3 k4 k5 it iff_ inl ic ip] at hG ⊢
        refine useR (w_name k.1 (by omega)) ?_ ?_
        · rintro v5 h5 hI5 _ ⟨w, σ5, e5, s5, n5, l5, q5⟩
          have n05 := k.tr n5
          have o5 : psO σ5 = psO σ3 := n5.2.2.2.2.1.1
          have lt5 : jsz h0 ≤ jsz h5 := n05.2.1.2.2.2.1.1
          have eq5 : nmS rec src (psA σ3).length σ3 = (if pIs σ5 "(" = true then pNext true src σ5 >>= fun t => clS rec src (psA σ3).length w t.2 else if pIs σ5 "." = true then pNext true src σ5 >>= fun t => pName true src t.2 >>= fun w' => .ok (pNode w'.2 (2, 0, w'.1, some w, vNull, [], (psA σ3).length)) else .ok (pNode σ5 (2, 0, w, none, vNull, [], (psA σ3).length))) := by
            unfold nmS; rw [e5]; rfl
          refine ⟨n5.1.sg, ?_⟩
          rw [n5.1.1.2.2.1]
          refine useI (w_takes n5.1 "(" (by decide +kernel) (by omega)) ?_ ?_
          · rintro v6 h6 hI6 _ ⟨b, σ6, e6, rfl, n6, q6, t6, f6⟩
            cases b with
            | true =>
              obtain ⟨ip6, en, l6⟩ := t6 rfl
              refine ⟨fun z => absurd z (by decide), fun _ => ?_⟩
              have n06 := n05.tr n6
              have o6 : psO σ6 = psO σ5 := n6.2.2.2.2.1.1
              have s6 := n6.2.1.2.2.2.2 _ _ s5
              rw [eq5, if_pos ip6, en, ok_bind] at hG ⊢
              refine useR (w_call hx hr (n06.mono (by omega) (by omega)) (n06.2.2.2.1.mono (by omega) (by omega)) hI0 hs0 s6 (by omega) (by omega) hG) ?_ ?_
              · rintro v7 h7 hI7 _ ⟨i, σ7, ρ7, e7, hv7, n7, l7⟩
                exact endR fun _ _ _ => ⟨i, σ7, ρ7, e7, hv7, n7, by omega⟩
              · rintro y7 h7 hI7 _ x
                exact endX fun _ _ => x
            | false =>
              obtain ⟨ip6, rfl, rfl⟩ := f6 rfl
              refine ⟨fun _ => ⟨n5.1.sg, ?_⟩, fun z => absurd rfl z⟩
              rw [n5.1.1.2.2.1]
              rw [eq5, if_neg (by rw [ip6]; simp)] at hG ⊢
              refine useI (w_takes n5.1 "." (by decide +kernel) (by omega)) ?_ ?_
              · rintro v7 h7 hI7 _ ⟨b, σ7, e7, rfl, n7, q7, t7, f7⟩
                cases b with
                | true =>
                  obtain ⟨id7, en, l7⟩ := t7 rfl
                  refine ⟨fun z => absurd z (by decide), fun _ => ?_⟩
                  rintro r8 h8 rfl rfl
                  have n07 := n05.tr n7
                  have n08 := n07.nO (kk := 24) (N := 6) hI7 hI0 hs0 rfl
                  have w8 : Raw (nwo h7 24 6) (jsz h7 + 1) 24 := Raw.new hI7
                  have hI8 := hI7.nO (k := 24) (N := 6) (by decide)
                  have s7 := n7.2.1.2.2.2.2 _ _ s5
                  have s8 : StR (nwo h7 24 6) v5 w := s7.of (same_nwo (s7.lt hI7).1) (same_nwo (s7.lt hI7).2)
                  rw [if_pos id7, en, ok_bind] at hG ⊢
                  refine ⟨n08.1.sg, ?_⟩
                  rw [n08.1.1.2.2.1]
                  have lt7 : jsz h0 ≤ jsz h7 := n07.2.1.2.2.2.1.1
                  refine useR (w_name n08.1 (by omega)) ?_ ?_
                  · rintro v9 h9 hI9 _ ⟨w', σ9, e9, s9, n9, l9, q9⟩
                    have n09 := n08.tr n9
                    rw [e9, ok_bind] at hG ⊢
                    refine useV0 (w_col n09 hI9 hI0 hs0 (n9.raw n08.1 hI8 w8 (by decide)) (by omega) (hG _ _ rfl) s9 (n9.2.1.2.2.2.2 _ _ s8) (by omega)) ?_
                    rintro h10 hI10 _ n10
                    have lp10 : lp (pNode σ9 (2, 0, w', some w, vNull, [], (psA σ3).length)).2 = lp σ9 := lp_eq rfl
                    exact endR fun _ _ _ => ⟨(pNode σ9 (2, 0, w', some w, vNull, [], (psA σ3).length)).1, (pNode σ9 (2, 0, w', some w, vNull, [], (psA σ3).length)).2, _, rfl, (rup_eq _ _ _).symm, n10.mono (by omega) (by omega), by omega⟩
                  · rintro y9 h9 hI9 _ ⟨er, e9, n9⟩
                    exact endX fun _ _ => ⟨er, by rw [e9]; rfl, n08.err (by omega) (by omega) n9⟩
                | false =>
                  obtain ⟨id7, rfl, rfl⟩ := f7 rfl
                  refine ⟨fun _ => ?_, fun z => absurd rfl z⟩
                  rw [if_neg (by rw [id7]; simp)] at hG ⊢
                  rintro r8 h8 rfl rfl
                  have n08 := n05.nO (kk := 24) (N := 6) hI5 hI0 hs0 rfl
                  have w8 : Raw (nwo h7 24 6) (jsz h7 + 1) 24 := Raw.new hI5
                  have hI8 := hI5.nO (k := 24) (N := 6) (by decide)
                  have s8 : StR (nwo h7 24 6) v5 w := s5.of (same_nwo (s5.lt hI5).1) (same_nwo (s5.lt hI5).2)
                  refine useV0 (w_col (o := none) n08 hI8 hI0 hs0 w8 (by omega) (hG _ _ rfl) s8 rfl (by omega)) ?_
                  rintro h10 hI10 _ n10
                  have lp10 : lp (pNode σ7 (2, 0, w, none, vNull, [], (psA σ3).length)).2 = lp σ7 := lp_eq rfl
                  exact endR fun _ _ _ => ⟨(pNode σ7 (2, 0, w, none, vNull, [], (psA σ3).length)).1, (pNode σ7 (2, 0, w, none, vNull, [], (psA σ3).length)).2, _, rfl, (rup_eq _ _ _).symm, n10.mono (by omega) (by omega), by omega⟩
              · rintro y7 h7 hI7 _ ⟨er, e7, n7⟩
                obtain ⟨id7, en⟩ := takeE e7
                exact endX fun _ _ => ⟨er, by rw [if_pos id7, en]; rfl, n05.err (by omega) (by omega) n7⟩
          · rintro y6 h6 hI6 _ ⟨er, e6, n6⟩
            obtain ⟨ip6, en⟩ := takeE e6
            exact endX fun _ _ => ⟨er, by rw [eq5, if_pos ip6, en]; rfl, n05.err (by omega) (by omega) n6⟩
        · rintro y5 h5 hI5 _ ⟨er, e5, n5⟩
          exact endX fun _ _ => ⟨er, by unfold nmS; rw [e5]; rfl, k.errC (by omega) (by omega) rfl n5⟩
  · rintro y3 h3 hI3 _ ⟨er, e3, n3⟩
    obtain ⟨ic, en⟩ := takeE e3
    have inl := is_ne (b := "null") ic (by decide)
    exact endX fun _ _ => ⟨er, by rw [prim_cas k3 k4 k5 itf inl ic, en]; rfl, k.errC (by omega) (by omega) rfl n3⟩
end
