/-! the parser of the component: a statement -/
section
variable {D : JD} {p s a base : Nat} {src : Str} {h h' h'' h0 h2 : JH} {σ σ' σ'' σ0 σ2 : PS} {ρ ρ' ρ'' ρ0 : Nat → Nat} {n m n' m' n1 m1 : Int} {d c r q w arr N L L' l v : Nat}
def brW (k : Nat) : Str := if k = 5 then sStr "begin" else if k = 6 then sStr "commit" else sStr "rollback"
/-- the statement y stands at v, its trees by ρ -/
def StmR (D : JD) (h : JH) (ρ : Nat → Nat) (v : Nat) (y : Stm) : Prop :=
  (smK y = 0 → CreR D h v y) ∧ (smK y = 1 → DrpR h v y) ∧ (smK y = 2 → InsR h ρ v y) ∧ (smK y = 3 → UpdR h ρ v y) ∧ (smK y = 4 → DelR h ρ v y) ∧ (smK y = 5 ∨ smK y = 6 ∨ smK y = 7 → BrkR h v (brW (smK y))) ∧ (smK y = 8 → SelR h ρ v y) ∧ TreeR D h (smA y) ρ ∧ RI ρ (smA y).length
theorem OP.two {α β : Type} {R : JH → (Nat → Nat) → Nat → α → Prop} {R' : JH → (Nat → Nat) → Nat → α → Prop} {x x' : Except Nat (α × PS)} (hx : x' = x) (o : OP D p s a base src h σ ρ R x v h') (hR : ∀ y σ' ρ', x = .ok (y, σ') → R h' ρ' v y → PsR D p s a base src h' σ' ρ' → R' h' ρ' v y) : OP2 D p s a base src h σ ρ R' x' v h' := by
  obtain ⟨y, σ', ρ', e1, r1, l1, k1, p1⟩ := o
  exact ⟨y, σ', ρ', hx.trans e1, hR y σ' ρ' e1 r1 k1.1, l1, k1.two, p1⟩
theorem XE.two {α : Type} {x x' : Except Nat (α × PS)} {y : Nat} (hx : x' = x) (o : XE p s src h σ x y h') : SeE p s src h σ x' y h' := by
  obtain ⟨er, e1, n1⟩ := o
  exact ⟨er, hx.trans e1, n1.two (Or.inr (Or.inl rfl))⟩
theorem stT_r : ∀ e ∈ stT, sReserved.contains e.2.1 = true ∧ e.2.2 ≠ -1 ∧ e.2.1 ≠ [] := by decide +kernel
theorem w_st246 {wd : Str} {Q : JO → JH → Prop} (hI : JInv D h) (k : PsR D p s a base src h σ ρ) (ho : psO σ = 0) (hw : wd = if tkK (psT σ) = 1 ∨ tkK (psT σ) = 2 then tkW (psT σ) else []) (hd : 353 ≤ d)
    (hQ : ∀ v h', JInv D h' → OP2 D p s a base src h σ ρ (fun h' ρ' v y => StmR D h' ρ' v y) (pStm0 true src σ) v h' → W_X17_statement_430 D d Q p v h')
    (hE : ∀ y h', JInv D h' → SeE p s src h σ (pStm0 true src σ) y h' → Q (.inr y) h') : W_X17_statement_246 D d Q p (stc wd) h := by
  rcases stc_or wd with z | ⟨e, he, e2, e3⟩
  · rw [z]
    refine ⟨fun z => absurd z (by decide), fun z => absurd z (by decide), fun z => absurd z (by decide), fun z => absurd z (by decide), fun z => absurd z (by decide), fun z => absurd z (by decide), fun z => absurd z (by decide), fun z => absurd z (by decide), fun z => absurd z (by decide), fun _ _ _ _ _ _ _ _ _ => ⟨k.1.2.1, useR0 (w_broken k (by omega)) ?_⟩⟩
    rintro y h1 hI1 _ n1
    refine ⟨n1.1.1, hE y h1 hI1 ⟨_, stm_none fun e he w ew => ?_, n1.two (Or.inl rfl)⟩⟩
    apply Bool.eq_false_iff.mpr
    intro y
    have r := stT_r e he
    have iw := (is_word (by rw [ew]; exact r.1) k.2.2.2.2.2.1.1).mpr y
    rw [if_pos iw.1, iw.2, ew] at hw
    rw [hw, (stT_h e he).2] at z
    exact r.2.1 z
  · have r := stT_r e he
    have hkw : tkK (psT σ) = 1 ∨ tkK (psT σ) = 2 := by
      apply Decidable.byContradiction
      intro y
      rw [if_neg y, e2] at hw
      exact r.2.2 hw
    rw [if_pos hkw, e2] at hw
    rw [e3]
    clear e2 e3 r
    simp only [stT, List.mem_cons, List.not_mem_nil, or_false] at he
    rcases he with rfl | rfl | rfl | rfl | rfl | rfl | rfl | rfl | rfl
    · have i : pIs σ "commit" = true := (is_word (by decide +kernel) k.2.2.2.2.2.1.1).mp ⟨hkw, hw.symm⟩
      refine ⟨fun z => absurd z (by decide), fun z => absurd z (by decide), fun z => absurd z (by decide), fun z => absurd z (by decide), fun z => absurd z (by decide), fun z => absurd z (by decide), fun z => absurd z (by decide), fun _ => w_brk (kk := 6) hI k (is_k i) (by omega) ?_ ?_, fun z => absurd z (by decide), fun _ _ _ _ _ _ _ z => absurd rfl z⟩
      · rintro v1 h1 hI1 o1
        refine hQ v1 h1 hI1 (o1.two (β := Nat) (stm_commit i) fun y σ' ρ' e1 r1 k1 => ?_)
        have ky := brS_k e1
        have r1 : BrkR h1 v1 (brW 6) := by rw [← show tkW (psT σ) = brW 6 from hw.symm]; exact r1
        exact ⟨fun z => by omega, fun z => by omega, fun z => by omega, fun z => by omega, fun z => by omega, fun _ => by rw [ky.1]; exact r1, fun z => by omega, by rw [ky.2.1]; exact ⟨k1.2.2.2.2.1, k1.2.2.2.2.2.2.2.2.2⟩⟩
      · rintro y1 h1 hI1 x1
        exact hE y1 h1 hI1 (x1.two (stm_commit i))
    · have i : pIs σ "create" = true := (is_word (by decide +kernel) k.2.2.2.2.2.1.1).mp ⟨hkw, hw.symm⟩
      refine ⟨fun _ => ⟨k.1.2.1, useR (w_create k (is_k i) (by omega)) ?_ ?_⟩, fun z => absurd z (by decide), fun z => absurd z (by decide), fun z => absurd z (by decide), fun z => absurd z (by decide), fun z => absurd z (by decide), fun z => absurd z (by decide), fun z => absurd z (by decide), fun z => absurd z (by decide), fun z => absurd rfl z⟩
      · rintro v1 h1 hI1 _ o1
        refine hQ v1 h1 hI1 (o1.two (β := Nat) (stm_create i) fun y σ' ρ' e1 r1 k1 => ?_)
        have ky := crS_k e1
        exact ⟨fun _ => r1, fun z => by omega, fun z => by omega, fun z => by omega, fun z => by omega, fun z => by omega, fun z => by omega, by rw [ky.2.1]; exact ⟨k1.2.2.2.2.1, k1.2.2.2.2.2.2.2.2.2⟩⟩
      · rintro y1 h1 hI1 _ x1
        exact hE y1 h1 hI1 (x1.two (stm_create i))
    · have i : pIs σ "delete" = true := (is_word (by decide +kernel) k.2.2.2.2.2.1.1).mp ⟨hkw, hw.symm⟩
      refine w_delete hI k ho (is_k i) (by omega) ?_ ?_
      · rintro v1 h1 hI1 o1
        refine hQ v1 h1 hI1 (o1.two (β := Nat) (stm_delete i) fun y σ' ρ' e1 r1 k1 => ?_)
        have ky := dlS_k e1
        exact ⟨fun z => by omega, fun z => by omega, fun z => by omega, fun z => by omega, fun _ => r1, fun z => by omega, fun z => by omega, by rw [ky.2.1]; exact ⟨k1.2.2.2.2.1, k1.2.2.2.2.2.2.2.2.2⟩⟩
      · rintro y1 h1 hI1 x1
        exact hE y1 h1 hI1 (x1.two (stm_delete i))
    · have i : pIs σ "insert" = true := (is_word (by decide +kernel) k.2.2.2.2.2.1.1).mp ⟨hkw, hw.symm⟩
      refine ⟨fun z => absurd z (by decide), fun z => absurd z (by decide), fun _ => ⟨k.1.2.1, useR (w_insert k ho (is_k i) (by omega)) ?_ ?_⟩, fun z => absurd z (by decide), fun z => absurd z (by decide), fun z => absurd z (by decide), fun z => absurd z (by decide), fun z => absurd z (by decide), fun z => absurd z (by decide), fun _ _ z => absurd rfl z⟩
      · rintro v1 h1 hI1 _ o1
        refine hQ v1 h1 hI1 (o1.two (β := Nat) (stm_insert i) fun y σ' ρ' e1 r1 k1 => ?_)
        have ky := insS_k e1
        exact ⟨fun z => by omega, fun z => by omega, fun _ => r1, fun z => by omega, fun z => by omega, fun z => by omega, fun z => by omega, by rw [ky.2.1]; exact ⟨k1.2.2.2.2.1, k1.2.2.2.2.2.2.2.2.2⟩⟩
      · rintro y1 h1 hI1 _ x1
        exact hE y1 h1 hI1 (x1.two (stm_insert i))
    · have i : pIs σ "select" = true := (is_word (by decide +kernel) k.2.2.2.2.2.1.1).mp ⟨hkw, hw.symm⟩
      refine ⟨fun z => absurd z (by decide), fun z => absurd z (by decide), fun z => absurd z (by decide), fun z => absurd z (by decide), fun z => absurd z (by decide), fun _ => ⟨k.1.2.1, useR (w_select k (is_k i) ho (by omega)) ?_ ?_⟩, fun z => absurd z (by decide), fun z => absurd z (by decide), fun z => absurd z (by decide), fun _ _ _ _ _ z => absurd rfl z⟩
      · rintro v1 h1 hI1 _ ⟨y, σ', ρ', e1, r1, l1, k1, p1⟩
        have ky := slS_k e1
        exact hQ v1 h1 hI1 ⟨y, σ', ρ', (stm_select i).trans e1, ⟨fun z => by omega, fun z => by omega, fun z => by omega, fun z => by omega, fun z => by omega, fun z => by omega, fun _ => r1, by rw [ky.2.1]; exact ⟨k1.1.2.2.2.2.1, k1.1.2.2.2.2.2.2.2.2.2⟩⟩, l1, k1, p1⟩
      · rintro y1 h1 hI1 _ ⟨er, e1, n1⟩
        exact hE y1 h1 hI1 ⟨er, (stm_select i).trans e1, n1⟩
    · have i : pIs σ "update" = true := (is_word (by decide +kernel) k.2.2.2.2.2.1.1).mp ⟨hkw, hw.symm⟩
      refine ⟨fun z => absurd z (by decide), fun z => absurd z (by decide), fun z => absurd z (by decide), fun _ => ⟨k.1.2.1, useR (w_update k ho (is_k i) (by omega)) ?_ ?_⟩, fun z => absurd z (by decide), fun z => absurd z (by decide), fun z => absurd z (by decide), fun z => absurd z (by decide), fun z => absurd z (by decide), fun _ _ _ z => absurd rfl z⟩
      · rintro v1 h1 hI1 _ o1
        refine hQ v1 h1 hI1 (o1.two (β := Nat) (stm_update i) fun y σ' ρ' e1 r1 k1 => ?_)
        have ky := upS_k e1
        exact ⟨fun z => by omega, fun z => by omega, fun z => by omega, fun _ => r1, fun z => by omega, fun z => by omega, fun z => by omega, by rw [ky.2.1]; exact ⟨k1.2.2.2.2.1, k1.2.2.2.2.2.2.2.2.2⟩⟩
      · rintro y1 h1 hI1 _ x1
        exact hE y1 h1 hI1 (x1.two (stm_update i))
    · have i : pIs σ "rollback" = true := (is_word (by decide +kernel) k.2.2.2.2.2.1.1).mp ⟨hkw, hw.symm⟩
      refine ⟨fun z => absurd z (by decide), fun z => absurd z (by decide), fun z => absurd z (by decide), fun z => absurd z (by decide), fun z => absurd z (by decide), fun z => absurd z (by decide), fun z => absurd z (by decide), fun z => absurd z (by decide), fun _ => w_brk (kk := 7) hI k (is_k i) (by omega) ?_ ?_, fun _ _ _ _ _ _ _ _ z => absurd rfl z⟩
      · rintro v1 h1 hI1 o1
        refine hQ v1 h1 hI1 (o1.two (β := Nat) (stm_rollback i) fun y σ' ρ' e1 r1 k1 => ?_)
        have ky := brS_k e1
        have r1 : BrkR h1 v1 (brW 7) := by rw [← show tkW (psT σ) = brW 7 from hw.symm]; exact r1
        exact ⟨fun z => by omega, fun z => by omega, fun z => by omega, fun z => by omega, fun z => by omega, fun _ => by rw [ky.1]; exact r1, fun z => by omega, by rw [ky.2.1]; exact ⟨k1.2.2.2.2.1, k1.2.2.2.2.2.2.2.2.2⟩⟩
      · rintro y1 h1 hI1 x1
        exact hE y1 h1 hI1 (x1.two (stm_rollback i))
    · have i : pIs σ "drop" = true := (is_word (by decide +kernel) k.2.2.2.2.2.1.1).mp ⟨hkw, hw.symm⟩
      refine w_drop hI k (is_k i) (by omega) ?_ ?_
      · rintro v1 h1 hI1 o1
        refine hQ v1 h1 hI1 (o1.two (β := Nat) (stm_drop i) fun y σ' ρ' e1 r1 k1 => ?_)
        have ky := drS_k e1
        exact ⟨fun z => by omega, fun _ => r1, fun z => by omega, fun z => by omega, fun z => by omega, fun z => by omega, fun z => by omega, by rw [ky.2.1]; exact ⟨k1.2.2.2.2.1, k1.2.2.2.2.2.2.2.2.2⟩⟩
      · rintro y1 h1 hI1 x1
        exact hE y1 h1 hI1 (x1.two (stm_drop i))
    · have i : pIs σ "begin" = true := (is_word (by decide +kernel) k.2.2.2.2.2.1.1).mp ⟨hkw, hw.symm⟩
      refine ⟨fun z => absurd z (by decide), fun z => absurd z (by decide), fun z => absurd z (by decide), fun z => absurd z (by decide), fun z => absurd z (by decide), fun z => absurd z (by decide), fun _ => w_brk (kk := 5) hI k (is_k i) (by omega) ?_ ?_, fun z => absurd z (by decide), fun z => absurd z (by decide), fun _ _ _ _ _ _ z => absurd rfl z⟩
      · rintro v1 h1 hI1 o1
        refine hQ v1 h1 hI1 (o1.two (β := Nat) (stm_begin i) fun y σ' ρ' e1 r1 k1 => ?_)
        have ky := brS_k e1
        have r1 : BrkR h1 v1 (brW 5) := by rw [← show tkW (psT σ) = brW 5 from hw.symm]; exact r1
        exact ⟨fun z => by omega, fun z => by omega, fun z => by omega, fun z => by omega, fun z => by omega, fun _ => by rw [ky.1]; exact r1, fun z => by omega, by rw [ky.2.1]; exact ⟨k1.2.2.2.2.1, k1.2.2.2.2.2.2.2.2.2⟩⟩
      · rintro y1 h1 hI1 x1
        exact hE y1 h1 hI1 (x1.two (stm_begin i))
/-- where a statement begins: no nodes yet -/
def ps1 (σ : PS) : PS := (psT σ, 0, 0, psP σ, [])
theorem PFr.own {F : Nat} {v : Int32} (hp : jkd h p = 14) : PFr h (wfi h F p v) p s :=
  ⟨fr_wfi (Or.inl (Or.inl rfl)), rfl, Or.inl rfl, ⟨Nat.le_refl _, fun _ => Or.inl rfl⟩, fun r w z => by
    have z1 := z.2.1
    have z2 := z.2.2.2.2.1
    exact z.of (same_wfi fun y => by rw [y] at z1; omega) (same_wfi fun y => by rw [y] at z2; omega)⟩
theorem PsR.start (k : PsR D p s a base src h σ ρ) (hI : JInv D h) (ho : psO σ = 0) : PsR D p s a base src (wfi h 81 p 0) (ps1 σ) ρ := by
  obtain ⟨q1, q2, q3, q4, q5, q6, q7, q8, q9, q10⟩ := k.kinds hI
  have pf : PFr h (wfi h 81 p 0) p s := PFr.own q1
  have ne : ∀ z, jkd h z ≠ 14 → same h (wfi h 81 p 0) z := fun z hz => same_wfi fun y => hz (by rw [y]; exact q1)
  obtain ⟨⟨k1, k2, k3, k4, k5, k6⟩, k7, k8, k9, k10, k11, k12, k13, k14⟩ := k
  refine ⟨⟨k1, k2, k3, ?_, ?_, ?_⟩, k7.of (ne s (by omega)) (ne a (by omega)) (ne _ (by omega)) (fun z => ne _ (by rw [q5 z]; decide)) pf.2.2.2.2, k8, k9.new fun _ _ => rfl, fun i hi => (by cases hi), ⟨k11.1, fun j hj => (by cases hj), Nat.zero_le _⟩, Nat.zero_le _, k13, k14.1, fun i j hi => by cases hi⟩
  · rw [jfi_wfi, if_neg fun z => absurd z.1 (by decide), k4, ho]; rfl
  · rw [jfi_wfi, if_pos ⟨rfl, rfl⟩]; rfl
  · rw [jfi_wfi, if_neg fun z => absurd z.1 (by decide)]; exact k6
/-- what a statement gives -/
def StP1 (D : JD) (p s a base : Nat) (src : Str) (h : JH) (σ : PS) (v : Nat) (h' : JH) : Prop :=
  ∃ y σ' ρ', pStm true src σ = .ok (y, σ') ∧ StmR D h' ρ' v y ∧ jsz h < v ∧ PsR D p s a base src h' σ' ρ' ∧ PFr h h' p s ∧ Sp h h' (80 * (lp σ' - lp σ)) (2400 * (lp σ' - lp σ)) ∧ lp σ + 1 ≤ lp σ' ∧ psO σ' = 0
theorem w_statement (k : PsR D p s a base src h σ ρ) (ho : psO σ = 0) (hd : 354 ≤ d) :
    cX17_statement D d p h (pR D h 57 (StP1 D p s a base src h σ) (SeE p s src h σ (pStm true src σ))) := by
  obtain ⟨e, rfl, he⟩ := dsucc hd
  refine JW.inv fun hI => t_X17_statement ⟨k.1.2.1, ?_⟩
  rintro h1 q1
  have k1 : PsR D p s a base src h1 (ps1 σ) ρ := by rw [q1]; exact k.start hI ho
  have pf1 : PFr h h1 p s := by rw [q1]; exact PFr.own k.1.1
  have sp1 : Sp h h1 0 0 := by rw [q1]; exact Sp.fi
  have z1 : jsz h1 = jsz h := by rw [q1]; rfl
  have hI1 : JInv D h1 := by rw [q1]; exact hI.wfi (hI.2.1 _ (by rw [k.1.1]; decide)) (hI.lt (by rw [k.1.1]; decide))
  clear q1
  refine ⟨k1.sg, ?_⟩
  rw [k1.1.2.2.1, k1.2.1.2.2.1]
  have main : ∀ wd, wd = (if tkK (psT σ) = 1 ∨ tkK (psT σ) = 2 then tkW (psT σ) else []) → ∀ h2, JInv D h2 → HS h1 h2 → W_X17_statement_246 D e (pR D h 57 (StP1 D p s a base src h σ) (SeE p s src h σ (pStm true src σ))) p (stc wd) h2 := by
    intro wd hw h2 hI2 hs2
    have k2 := k1.hs hI1 hs2
    have pf2 := pf1.tr (hs2.sgf (p := p) hI1 k1.s15.1).1
    have sp2 := sp1.tr hs2.sp
    have z2 : jsz h2 = jsz h := by rw [hs2.sz.1]; exact z1
    refine w_st246 hI2 k2 rfl hw (by omega) ?_ ?_
    · rintro v3 h3 hI3 ⟨y, σ3, ρ3, e3, r3, l3, k3, p3⟩
      have o3 : psO σ3 = 0 := k3.2.2.2.2.1.1
      have p3 : lp σ + 1 ≤ lp σ3 := p3
      refine w_430g k3.1 (by omega) (fun c3 => ?_) fun c3 y4 h4 hI4 n4 => ?_
      · refine endR fun _ _ _ => ⟨y, σ3, ρ3, ?_, r3, by omega, k3.1, pf2.tr k3.2.1, (sp2.tr k3.2.2.2.1).mono ?_ ?_, p3, o3⟩
        · unfold pStm
          show (pStm0 true src (ps1 σ) >>= _) = _
          rw [e3, ok_bind]
          show (if (tkK (psT σ3) == 0 || pIs σ3 ";") = true then _ else _) = _
          rw [if_pos c3]
        · show 0 + 0 + 80 * (lp σ3 - lp σ) ≤ _; omega
        · show 0 + 0 + 2400 * (lp σ3 - lp σ) ≤ _; omega
      · have n5 : PEr2 p s src h2 h4 (ps1 σ) y4 _ := k3.err n4 (Or.inl rfl)
        refine endX fun _ _ => ⟨tkF (psT σ3) + 1, ?_, n5.1, pf2.tr n5.2.1, (sp2.tr n5.2.2.1).mono ?_ ?_, n5.2.2.2⟩
        · unfold pStm
          show (pStm0 true src (ps1 σ) >>= _) = _
          rw [e3, ok_bind]
          show (if (tkK (psT σ3) == 0 || pIs σ3 ";") = true then _ else _) = _
          rw [if_neg (by rw [c3]; simp)]; rfl
        · have : lp (ps1 σ) = lp σ := rfl
          omega
        · have : lp (ps1 σ) = lp σ := rfl
          omega
    · rintro y3 h3 hI3 ⟨er, e3, n3⟩
      refine endX fun _ _ => ⟨er, ?_, n3.1, pf2.tr n3.2.1, (sp2.tr n3.2.2.1).mono ?_ ?_, n3.2.2.2⟩
      · unfold pStm
        show (pStm0 true src (ps1 σ) >>= _) = _
        rw [e3]; rfl
      · have : lp (ps1 σ) = lp σ := rfl
        omega
      · have : lp (ps1 σ) = lp σ := rfl
        omega
  refine ⟨fun z => ?_, fun z => ?_⟩
  · rw [kcon_word hI1 k1.k7] at z
    have z : ¬ (tkK (psT σ) = 1 ∨ tkK (psT σ) = 2) := z
    have c30 : StR h1 (jcs D 30) [] := by
      have := k_const hI1 (j := 30) (by decide)
      rwa [show jcon 30 = [] by decide +kernel] at this
    exact w_st30 c30 (by omega) (main [] (by rw [if_neg z]))
  · rw [kcon_word hI1 k1.k7] at z
    have z : tkK (psT σ) = 1 ∨ tkK (psT σ) = 2 := z
    exact w_st30 k1.2.1.2.2.2.1 (by omega) (main _ (by rw [if_pos z]; rfl))
/-! signs that part statements -/
theorem w_partsL : ∀ (f : Nat) σ h d (Q : JO → JH → Prop), PsR D p s a base src h σ ρ → src.length + 2 ≤ (f : Int) + lp σ → 11 ≤ d →
    (∀ h' σ', JInv D h' → pParts true src f σ = .ok ((), σ') → PSg D p s a base src h h' σ σ' ρ → σ'.2 = σ.2 → Q (.inl none) h') → (∀ y h' er, JInv D h' → pParts true src f σ = .error er → PErr p s src h h' σ y er → Q (.inr y) h') → L_X17_parts_0 D d Q f p h
  | 0, σ, h, d, Q, k, hf, _, _, _ => by
    have := k.lpl
    exfalso; omega
  | f + 1, σ, h, d, Q, k, hf, hd, hQ, hE => by
    refine ⟨k.1.2.1, k.sg, ?_⟩
    rw [k.1.2.2.1]
    refine useI (w_takes k ";" (by decide +kernel) hd) ?_ ?_
    · rintro v1 h1 hI1 _ ⟨b, σ1, e1, rfl, n1, q1, t1, f1⟩
      cases b with
      | false =>
        obtain ⟨i1, rfl, rfl⟩ := f1 rfl
        refine ⟨fun _ => hQ h1 σ1 hI1 ?_ n1 rfl, fun z => absurd rfl z⟩
        unfold pParts
        rw [if_neg (by rw [i1]; simp)]
      | true =>
        obtain ⟨i1, en, l1⟩ := t1 rfl
        have eq : pParts true src (f + 1) σ = pParts true src f σ1 := by
          conv => lhs; unfold pParts
          rw [if_pos i1, en]; rfl
        rw [eq] at hQ hE
        refine ⟨fun z => absurd z (by decide), fun _ => w_partsL f σ1 h1 d Q n1.1 (by omega) hd ?_ ?_⟩
        · rintro h2 σ2 hI2 e2 n2 q2
          have := n1.2.2.2.2.2
          have := n2.2.2.2.2.2
          exact hQ h2 σ2 hI2 e2 ((POk.tr n1 n2).mono (by omega) (by omega)) (q2.trans q1)
        · rintro y2 h2 er hI2 e2 n2
          exact hE y2 h2 er hI2 e2 (POk.err n1 (by omega) (by omega) n2)
    · rintro y1 h1 hI1 _ ⟨er, e1, n1⟩
      obtain ⟨i1, en⟩ := takeE e1
      refine hE y1 h1 er hI1 ?_ n1.up
      unfold pParts
      rw [if_pos i1, en]; rfl
theorem w_parts (k : PsR D p s a base src h σ ρ) (hl : 1 ≤ lp σ) (hd : 12 ≤ d) :
    cX17_parts D d p h (pV D h (fun h' => ∃ σ', pParts true src (src.length + 1) σ = .ok ((), σ') ∧ PSg D p s a base src h h' σ σ' ρ ∧ σ'.2 = σ.2) (fun y h' => ∃ er, pParts true src (src.length + 1) σ = .error er ∧ PErr p s src h h' σ y er)) := by
  obtain ⟨e, rfl, he⟩ := dsucc hd
  refine t_X17_parts ⟨src.length + 1, w_partsL (src.length + 1) σ h e _ k (by omega) (by omega) ?_ ?_⟩
  · rintro h1 σ1 hI1 e1 n1 q1
    exact endV fun _ _ => ⟨σ1, e1, n1, q1⟩
  · rintro y1 h1 er hI1 e1 n1
    exact fun _ _ => ⟨er, e1, n1⟩
end
