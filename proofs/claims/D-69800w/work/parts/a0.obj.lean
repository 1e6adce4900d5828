/-! the parser of the component: the objects of a statement while it is read -/
/-- kinds of objects of statements: no part of a parser's state or of trees -/
def skd (k : Nat) : Bool := (Nat.ble 16 k && Nat.ble k 19) || ((Nat.ble 30 k && Nat.ble k 35) || ((Nat.ble 145 k && Nat.ble k 160) || (Nat.beq k 221 || Nat.beq k 225)))
theorem skd_or {k : Nat} (h : skd k = true) : (16 ≤ k ∧ k ≤ 19) ∨ (30 ≤ k ∧ k ≤ 35) ∨ (145 ≤ k ∧ k ≤ 160) ∨ k = 221 ∨ k = 225 := by
  simp only [skd, Bool.or_eq_true, Bool.and_eq_true, Nat.ble_eq, Nat.beq_eq] at h
  exact h
section
variable {D : JD} {p s a base : Nat} {src : Str} {h h' h'' h0 : JH} {σ σ' σ'' σ0 : PS} {ρ ρ' ρ'' ρ0 : Nat → Nat} {n m n' m' : Int} {d c r : Nat}
/-- objects of statements stay as they are while the parser goes on -/
theorem PFr.obj (f : PFr h h' p s) (hI : JInv D h) (hp : jkd h p = 14) (hs : jkd h s = 15) {q : Nat} (hk : skd (jkd h q) = true) : same h h' q := by
  have k := skd_or hk
  have q0 : q ≠ 0 := fun e => by have := (hI.1 q (by omega)).1; omega
  refine f.1 q (hI.lt (by omega)) ?_
  rintro (z | z | z | z | z)
  · rw [z, hp] at k; omega
  · rw [z, hs] at k; omega
  · rw [z, hI.ref (F := 90) (k := 100) (by decide +kernel) (z ▸ q0)] at k; omega
  · rw [z, hI.ref (F := 67) (k := 144) (by decide +kernel) (z ▸ q0)] at k; omega
  · omega
theorem POk.obj (k : POk D p s a base src h h' σ σ' ρ ρ' n m) (k0 : PsR D p s a base src h σ ρ) (hI : JInv D h) {q : Nat} (hk : skd (jkd h q) = true) : same h h' q := k.2.1.obj hI k0.1.1 k0.s15.1 hk
/-- an object of a statement, which is new since h0, changes -/
theorem POk.set (k : POk D p s a base src h0 h σ0 σ ρ0 ρ n m) (hI : JInv D h) (hI0 : JInv D h0) (hs : s ≤ jsz h0) (hk : skd (jkd h r) = true) (hr : jsz h0 < r) (f : fr (jsz h) (fun q => q = r) h h') (hz : jsz h ≤ jsz h') (hF : ∀ F q, (F = 67 ∨ F = 108 ∨ F = 111 ∨ F = 115) → jfr h' F q = jfr h F q) (sp : Sp h h' 0 0) : POk D p s a base src h0 h' σ0 σ ρ0 ρ n m := by
  obtain ⟨q1, q2, q3, q4, q5, q6, q7, q8, q9, q10⟩ := k.1.kinds hI
  have kk := skd_or hk
  have ne : ∀ q, q ≤ jsz h → jkd h q ≠ jkd h r → same h h' q := fun q ql z => f q ql fun e => z (by rw [e])
  have st : ∀ q w, StR h q w → StR h' q w := fun q w z => by
    have hl := z.lt hI
    have z1 := z.2.1
    have z2 := z.2.2.2.2.1
    exact z.of (ne q hl.1 (by omega)) (ne _ hl.2 (by omega))
  have ow : OW h' := k.1.2.2.2.1.eq fun F q hf => hF F q (by omega)
  have k1 : PsR D p s a base src h' σ ρ := by
    refine k.1.of (ne p q6 (by omega)) (ne s q7 (by omega)) (ne a q8 (by omega)) (ne _ q9 (by omega)) (fun z => ne _ q10 (by rw [q5 z]; omega)) st ow fun j hj => ?_
    have kj := k.1.2.2.2.2.1 j hj
    have nk := nkd_ex (nat_ (psA σ) j)
    have k2 := kj.2.1
    refine kj.of ⟨ne _ (kj.lt hI) (by omega), fun F hf z => ?_, fun z z2 => ne _ hI.refl (by omega), st⟩
    have ck : jkd h (jfr h F (ρ j)) = 98 ∨ jkd h (jfr h F (ρ j)) = 99 := by
      rcases hf with rfl | rfl
      · exact Or.inl (hI.ref (F := 108) (by decide +kernel) z)
      · exact Or.inr (hI.ref (F := 115) (by decide +kernel) z)
    exact ⟨ne _ hI.refl (by omega), fun z1 => ne _ hI.refl (by rw [hI.ref (F := 67) (k := 144) (by decide +kernel) z1]; omega)⟩
  exact ⟨k1, k.2.1.fresh hI hr f hz hs hI0.refl ⟨by omega, by omega, by omega, by omega⟩ hI0 fun q => Or.inl (hF 111 q (by omega)), k.2.2.1, (k.2.2.2.1.tr sp).mono (by omega) (by omega), k.2.2.2.2⟩
theorem POk.sfi {F : Nat} {v : Int32} (k : POk D p s a base src h0 h σ0 σ ρ0 ρ n m) (hI : JInv D h) (hI0 : JInv D h0) (hs : s ≤ jsz h0) (hk : skd (jkd h r) = true) (hr : jsz h0 < r) : POk D p s a base src h0 (wfi h F r v) σ0 σ ρ0 ρ n m := k.set hI hI0 hs hk hr (fr_wfi (Or.inl rfl)) (Nat.le_refl _) (fun _ _ _ => rfl) Sp.fi
theorem POk.sfl {F : Nat} {v : Int64} (k : POk D p s a base src h0 h σ0 σ ρ0 ρ n m) (hI : JInv D h) (hI0 : JInv D h0) (hs : s ≤ jsz h0) (hk : skd (jkd h r) = true) (hr : jsz h0 < r) : POk D p s a base src h0 (wfl h F r v) σ0 σ ρ0 ρ n m := k.set hI hI0 hs hk hr (fr_wfl (Or.inl rfl)) (Nat.le_refl _) (fun _ _ _ => rfl) Sp.fl
theorem POk.sfr {F v : Nat} (k : POk D p s a base src h0 h σ0 σ ρ0 ρ n m) (hI : JInv D h) (hI0 : JInv D h0) (hs : s ≤ jsz h0) (hk : skd (jkd h r) = true) (hr : jsz h0 < r) (hF : F ≠ 67 ∧ F ≠ 108 ∧ F ≠ 111 ∧ F ≠ 115 ∧ F ≠ 269 := by decide) : POk D p s a base src h0 (wfr h F r v) σ0 σ ρ0 ρ n m :=
  k.set hI hI0 hs hk hr (fr_wfr (Or.inl rfl)) (Nat.le_refl _) (fun G q hG => by rw [jfr_wfr, if_neg fun z => by omega]) (Sp.fr (Or.inl ⟨by omega, by omega⟩))
theorem POk.sai {i : Nat} {v : Int32} (k : POk D p s a base src h0 h σ0 σ ρ0 ρ n m) (hI : JInv D h) (hI0 : JInv D h0) (hs : s ≤ jsz h0) (hk : skd (jkd h r) = true) (hr : jsz h0 < r) : POk D p s a base src h0 (wai h r i v) σ0 σ ρ0 ρ n m := k.set hI hI0 hs hk hr (fr_wai (Or.inl rfl)) (Nat.le_refl _) (fun _ _ _ => rfl) Sp.ai
theorem POk.sar {i v : Nat} (k : POk D p s a base src h0 h σ0 σ ρ0 ρ n m) (hI : JInv D h) (hI0 : JInv D h0) (hs : s ≤ jsz h0) (hk : skd (jkd h r) = true) (hr : jsz h0 < r) : POk D p s a base src h0 (war h r i v) σ0 σ ρ0 ρ n m := k.set hI hI0 hs hk hr (fr_war (Or.inl rfl)) (Nat.le_refl _) (fun _ _ _ => rfl) Sp.ar
/-- the trees of statements read before stay -/
theorem TreeR.pfs {A : List Nod} {ρ2 : Nat → Nat} (t : TreeR D h A ρ2) (k0 : PsR D p s a base src h σ ρ) (hI : JInv D h) (k : POk D p s a base src h h' σ σ' ρ ρ' n m) : TreeR D h' A ρ2 := t.pf hI k0.2.2.2.1 k0.1.1 k0.s15.1 k.2.1
/-! columns of a new table -/
def ColR (D : JD) (h : JH) (c : Nat) (v : Col) : Prop := c ≠ 0 ∧ jkd h c = 16 ∧ StR h (jfr h 92 c) v.1 ∧ jfr h 93 c = tyc D v.2.1 ∧ jfi h 94 c = (if v.2.2.1 = true then 1 else 0) ∧ jfi h 95 c = (if v.2.2.2 = true then 1 else 0)
theorem ColR.of {v : Col} (k : ColR D h c v) (sm : same h h' c) (st : ∀ q w, StR h q w → StR h' q w) : ColR D h' c v := by
  obtain ⟨k1, k2, k3, k4, k5, k6⟩ := k
  exact ⟨k1, by rw [sm.kd]; exact k2, by rw [sm.fr]; exact st _ _ k3, by rw [sm.fr]; exact k4, by rw [sm.fi]; exact k5, by rw [sm.fi]; exact k6⟩
end
