/-! the component: values are worked out; what changes -/
section
variable {D : JD} {h h' h'' hm h0 : JH} {ρ : Nat → Nat} {A : List Nod} {E : TEnv} {d sc r x i n f c q : Nat} {M : Nat → Prop} {pv : List Val} {R : TRow}
/-- what holds rows and cells holds each once -/
def okd (k : Nat) : Bool := Nat.beq k 133 || (Nat.beq k 134 || (Nat.beq k 135 || (Nat.beq k 139 || (Nat.beq k 140 || (Nat.beq k 223 || Nat.beq k 224)))))
def OT (h : JH) : Prop := (∀ a b i j, okd (jkd h a) = true → okd (jkd h b) = true → jar h a i = jar h b j → jar h a i ≠ 0 → a = b ∧ i = j) ∧ ∀ a b, jfr h 45 a = jfr h 45 b → jfr h 45 a ≠ 0 → a = b
theorem okd_cases {k : Nat} (e : okd k = true) : k = 133 ∨ k = 134 ∨ k = 135 ∨ k = 139 ∨ k = 140 ∨ k = 223 ∨ k = 224 := by
  unfold okd at e
  simp only [Bool.or_eq_true, Nat.beq_eq] at e
  omega
/-- cells in M and their characters have changed, and which rows the scope sc has -/
def EvF (D : JD) (sc : Nat) (M : Nat → Prop) (h h' : JH) : Prop :=
  (∀ q, q ≤ jsz h → ¬ M q → (∀ c, M c → q ≠ jfr h 67 c) → q ≠ jfr h 56 sc → jkd h q ≠ 12 → same h h' q) ∧
  (∀ c, M c → (jfr h' 67 c = jfr h 67 c ∨ jsz h < jfr h' 67 c) ∧ (CelW D h c → CelW D h' c)) ∧
  (OW h → OW h') ∧ (jsz h ≤ jsz h' ∧ Sp h h' 0 0 ∧ (OT h → OT h')) ∧ (∀ F q, F ≠ 64 → F ≠ 67 → jfr h' F q = jfr h F q) ∧ (∀ q, jkd h q ≠ 0 → jkd h' q = jkd h q) ∧ jln h' (jfr h 56 sc) = jln h (jfr h 56 sc) ∧ ∀ q t, StR h q t → StR h' q t
theorem EvF.rf : EvF D sc M h h := ⟨fun q _ _ _ _ _ => same.rf _ _, fun c _ => ⟨Or.inl rfl, id⟩, id, ⟨Nat.le_refl _, Sp.rf _, id⟩, fun _ _ _ _ => rfl, fun _ _ => rfl, rfl, fun _ _ k => k⟩
theorem EvF.tr (a : EvF D sc M h h') (b : EvF D sc M h' h'') : EvF D sc M h h'' := by
  obtain ⟨a1, a2, a3, ⟨a4, a5, a10⟩, a6, a7, a8, a9⟩ := a
  obtain ⟨b1, b2, b3, ⟨b4, b5, b10⟩, b6, b7, b8, b9⟩ := b
  have e56 : jfr h' 56 sc = jfr h 56 sc := a6 56 sc (by decide) (by decide)
  refine ⟨fun q q1 q2 q3 q4 q5 => (a1 q q1 q2 q3 q4 q5).tr (b1 q (by omega) q2 (fun c hc z => ?_) (by rw [e56]; exact q4) (by rw [(a1 q q1 q2 q3 q4 q5).kd]; exact q5)), fun c hc => ⟨?_, fun w => (b2 c hc).2 ((a2 c hc).2 w)⟩, fun o => b3 (a3 o), ⟨by omega, (a5.tr b5).mono (by omega) (by omega), fun o => b10 (a10 o)⟩, fun F q f1 f2 => (b6 F q f1 f2).trans (a6 F q f1 f2), fun q hq => (b7 q (by rw [a7 q hq]; exact hq)).trans (a7 q hq), ?_, fun q t k => b9 q t (a9 q t k)⟩
  · rcases (a2 c hc).1 with y | y
    · exact q3 c hc (by rw [← y]; exact z)
    · omega
  · rcases (b2 c hc).1 with y | y
    · rw [y]; exact (a2 c hc).1
    · exact Or.inr (by omega)
  · rw [e56] at b8
    exact b8.trans a8
theorem EvF.mono {M' : Nat → Prop} (a : EvF D sc M h h') (hM : ∀ q, M q → M' q) (hW : ∀ c, M' c → ¬ M c → same h h' c ∧ (jfr h 67 c ≠ 0 → same h h' (jfr h 67 c))) : EvF D sc M' h h' := by
  obtain ⟨a1, a2, a3, a4, a6, a7, a8⟩ := a
  refine ⟨fun q q1 q2 q3 q4 q5 => a1 q q1 (fun z => q2 (hM q z)) (fun c hc => q3 c (hM c hc)) q4 q5, fun c hc => ?_, a3, a4, a6, a7, a8⟩
  by_cases z : M c
  · exact a2 c z
  · obtain ⟨s1, s2⟩ := hW c hc z
    exact ⟨Or.inl (s1.fr 67), fun w => w.of s1 s2⟩
/-- a cell that is not written stays -/
theorem CelW.oth {o : Nat} (hI : JInv D h) (ht : TX h) (hc : CelW D h c) (hf : CelF h h' o) (hne : c ≠ o) (ho : CelW D h o) : same h h' c ∧ (jfr h 67 c ≠ 0 → same h h' (jfr h 67 c)) := by
  have hl := hc.lt hI
  refine ⟨hf.1 _ hl.1 ?_, fun h0 => hf.1 _ hl.2 ?_⟩
  · rintro (z | z)
    · exact hne z
    · rcases ho.2.2.2.2 with w | w
      · rw [w] at z; exact hc.1 z
      · have := hc.2.1; rw [z, w.1] at this; cases this
  · rintro (z | z)
    · rcases hc.2.2.2.2 with w | w
      · exact h0 w
      · have := ho.2.1; rw [← z, w.1] at this; cases this
    · exact hne (ht _ _ z h0)
theorem sbt8 : ∀ k, k < 226 → sbt k 8 = true → k = 8 ∨ (96 ≤ k ∧ k ≤ 102) := by decide +kernel
theorem CelW.kd (hc : CelW D h c) : jkd h c = 8 ∨ (96 ≤ jkd h c ∧ jkd h c ≤ 102) := sbt8 _ (sbt_lt hc.2.1) hc.2.1
/-- a cell is written: rows and cells are held as before -/
theorem CelF.ot (hI : JInv D h) (hI' : JInv D h') (hf : CelF h h' c) (cw : CelW D h c) (hw : CelW D h' c) (hle : jle h h') (ot : OT h) : OT h' := by
  have kc := cw.kd
  have efr : ∀ F q, F ≠ 64 → F ≠ 67 → jfr h' F q = jfr h F q := hf.2.2.2.2.2.2.2
  have sm : ∀ q, q ≤ jsz h → jkd h q ≠ 0 → okd (jkd h q) = true → same h h' q := fun q q1 q2 q3 => hf.1 q q1 (by
    have hc := okd_cases q3
    rintro (z | z)
    · rw [z] at hc; omega
    · rcases cw.2.2.2.2 with w | w
      · have := (hI.1 q q2).1
        omega
      · rw [← z] at w; omega)
  have ar : ∀ a i, okd (jkd h' a) = true → jar h' a i ≠ 0 → okd (jkd h a) = true ∧ jar h' a i = jar h a i := fun a i ha hn => by
    by_cases z : jkd h a = 0
    · have := hI'.lt (fun e => by rw [e] at ha; cases ha)
      have n1 : jsz h < a := by
        by_cases g : jsz h < a
        · exact g
        · exfalso
          have ha' := okd_cases ha
          by_cases q : a = c ∨ a = jfr h 67 c
          · rcases q with q | q
            · rw [q] at z; omega
            · rcases cw.2.2.2.2 with w | w
              · rw [w] at q
                rw [q] at ha'
                have : jkd h' 0 = 0 := by
                  by_cases z0 : jkd h' 0 = 0
                  · exact z0
                  · have := (hI'.1 0 z0).1; omega
                omega
              · rw [← q, z] at w; omega
          · have := (hf.1 a (by omega) q).kd
            omega
      rcases hf.2.1 with e | e
      · have := hf.2.2.2.2.1
        unfold pc67 at this
        rw [e] at this
        omega
      · exfalso
        have h5 := hf.2.2.2.2.1
        unfold pc67 at h5
        have : jfr h' 67 c ≤ jsz h' := hI'.refl
        have ea : a = jfr h' 67 c := by
          split at h5 <;> split at h5 <;> omega
        have w := hw.2.2.2.2.resolve_left (by omega)
        rw [← ea] at w
        rw [w.1] at ha
        cases ha
    · have kd := hle.2.2 a z
      rw [kd] at ha
      exact ⟨ha, (sm a (hI.lt z) z ha).ar i⟩
  refine ⟨fun a b i i' ha hb e hn => ?_, fun a b => by rw [efr 45 a (by decide) (by decide), efr 45 b (by decide) (by decide)]; exact ot.2 a b⟩
  have ka := ar a i ha hn
  have kb := ar b i' hb (by rw [← e]; exact hn)
  exact ot.1 a b i i' ka.1 kb.1 (by rw [← ka.2, ← kb.2]; exact e) (by rw [← ka.2]; exact hn)
/-- one cell of M was written -/
theorem CelF.ev (hI : JInv D h) (hI' : JInv D h') (ow : OW h) (hf : CelF h h' c) (hM : M c) (hW : ∀ c, M c → CelW D h c) (hk : 96 ≤ jkd h c ∧ jkd h c ≤ 102) (hw : CelW D h' c) (hle : jle h h') (h56 : jfr h 56 sc ≠ 0) : EvF D sc M h h' := by
  have cw := hW c hM
  have k142 : jkd h (jfr h 56 sc) = 142 := hI.ref (F := 56) (by decide +kernel) h56
  refine ⟨fun q q1 q2 q3 q4 _ => hf.1 q q1 ?_, fun c' hc' => ?_, fun o => o.of (hf.2.2.1 o.tx) fun F q hF => hf.2.2.2.2.2.2.2 F q (by omega) (by omega), ⟨hf.2.2.2.1, hf.sp hI hI' ?_ cw.1 hw, fun o => hf.ot hI hI' cw hw hle o⟩, hf.2.2.2.2.2.2.2, hle.2.2, ?_, fun q t k => ?_⟩
  · rintro (z | z)
    · exact q2 (by rw [z]; exact hM)
    · exact q3 c hM z
  · by_cases e : c' = c
    · subst e
      exact ⟨hf.2.1, fun _ => hw⟩
    · obtain ⟨s1, s2⟩ := (hW c' hc').oth hI ow.tx hf e cw
      exact ⟨Or.inl (s1.fr 67), fun w => w.of s1 s2⟩
  · unfold ckd
    simp only [Bool.and_eq_true, Nat.ble_eq]
    exact hk
  · refine (hf.1 _ hI.refl ?_).ln
    rintro (z | z)
    · rw [z] at k142; omega
    · rcases cw.2.2.2.2 with w | w
      · rw [w] at z; exact h56 z
      · rw [← z, k142] at w; omega
  · have kc := cw.kd
    have no : ∀ p, p ≠ 0 → jkd h p ≠ 8 ∧ (jkd h p < 96 ∨ 102 < jkd h p) ∧ jkd h p ≠ 144 → ¬ (p = c ∨ p = jfr h 67 c) := fun p p0 pk z => by
      rcases z with z | z
      · rw [z] at pk; omega
      · rcases cw.2.2.2.2 with w | w
        · exact p0 (z.trans w)
        · rw [← z] at w; exact pk.2.2 w.1
    have z1 := k.2.1
    have z2 := k.2.2.2.2.1
    exact k.fr hI hf.1 (no q k.1 (by omega)) (no _ k.2.2.2.1 (by omega))
/-- the cells of the nodes from lo up to hi, but for literals -/
def EM (h : JH) (A : List Nod) (ρ : Nat → Nat) (lo hi : Nat) (q : Nat) : Prop := ∃ k, lo ≤ k ∧ k < hi ∧ k < A.length ∧ ndO (nat_ A k) ≠ 0 ∧ (q = jfr h 108 (ρ k) ∨ (nkd (nat_ A k) = 22 ∧ q = jfr h 115 (ρ k)))
theorem EM.mono {a b a' b' : Nat} (k : EM h A ρ a b q) (h1 : a' ≤ a) (h2 : b ≤ b') : EM h A ρ a' b' q := by
  obtain ⟨j, k1, k2, k3⟩ := k
  exact ⟨j, by omega, by omega, k3⟩
theorem EvF.em {lo hi : Nat} (a : EvF D sc M h h') : EM h' A ρ lo hi q ↔ EM h A ρ lo hi q := by
  have e : ∀ F q, F = 108 ∨ F = 115 → jfr h' F q = jfr h F q := fun F q hF => a.2.2.2.2.1 F q (by omega) (by omega)
  unfold EM
  constructor
  · rintro ⟨k, k1, k2, k3, k4, k5⟩
    rw [e 108 _ (Or.inl rfl), e 115 _ (Or.inr rfl)] at k5
    exact ⟨k, k1, k2, k3, k4, k5⟩
  · rintro ⟨k, k1, k2, k3, k4, k5⟩
    refine ⟨k, k1, k2, k3, k4, ?_⟩
    rw [e 108 _ (Or.inl rfl), e 115 _ (Or.inr rfl)]
    exact k5
theorem TreeR.emW {lo hi : Nat} (t : TreeR D h A ρ) (hI : JInv D h) (k : EM h A ρ lo hi q) : CelW D h q ∧ (jkd h q = 98 ∨ jkd h q = 99) := by
  obtain ⟨j, _, _, j3, j4, j5⟩ := k
  have nr := t j j3
  rcases j5 with e | ⟨e1, e2⟩
  · rw [e]
    exact ⟨nr.2.2.1, Or.inl (hI.ref (F := 108) (by decide +kernel) nr.2.2.1.1)⟩
  · have o3 : ndO (nat_ A j) = 3 := by
      unfold nkd at e1
      split at e1
      all_goals first | assumption | omega
    have := ((nr.2.2.2.2.2.2.1 o3).1 e1).2.2
    rw [e2]
    exact ⟨this, Or.inr (hI.ref (F := 115) (by decide +kernel) this.1)⟩
end
