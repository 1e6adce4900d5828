/-! the component: what stays while a statement is checked and worked out -/
section
variable {D : JD} {h h' h'' : JH} {ρ : Nat → Nat} {A : List Nod} {q c r i sc lo hi : Nat} {K : Nat → Bool} {M S S' : Nat → Prop}
/-- kinds of what is worked with -/
def wkd (k : Nat) : Bool := Nat.ble k 8 || (Nat.beq k 12 || ((Nat.ble 96 k && Nat.ble k 99) || (Nat.beq k 110 || ((Nat.ble 113 k && Nat.ble k 115) || ((Nat.ble 127 k && Nat.ble k 136) || ((Nat.ble 139 k && Nat.ble k 144) || (Nat.ble 223 k && Nat.ble k 224)))))))
/-- arrays whose elements change -/
def wkA (k : Nat) : Bool := Nat.beq k 148 || (Nat.beq k 151 || (Nat.beq k 157 || (Nat.beq k 158 || Nat.beq k 160)))
/-- fields that change where the object's kind is none of these -/
def wfI (F : Nat) : Bool := Nat.beq F 119 || (Nat.beq F 120 || (Nat.beq F 159 || Nat.beq F 160))
def wfR (F : Nat) : Bool := Nat.beq F 107 || (Nat.beq F 109 || Nat.beq F 138)
/-- a column that a star stands for -/
def StrO (D : JD) (h : JH) (x : Nat) : Prop := x ≠ 0 ∧ jkd h x = 24 ∧ CelW D h (jfr h 108 x)
/-- S: stars, and arrays of stars, that are written -/
def SFg (D : JD) (S : Nat → Prop) (h h' : JH) : Prop :=
  (∀ q, jkd h q ≠ 0 → jkd h' q = jkd h q) ∧
  (∀ q, jkd h q ≠ 0 → wkd (jkd h q) = false → jln h' q = jln h q ∧ (∀ F, (wfI F = false → jfi h' F q = jfi h F q) ∧ jfl h' F q = jfl h F q ∧ (wfR F = false → (jkd h q = 24 → S q → F ≠ 117 ∧ F ≠ 118) → jfr h' F q = jfr h F q)) ∧ (wkA (jkd h q) = false → ∀ i, jai h' q i = jai h q i ∧ jal h' q i = jal h q i) ∧ (wkA (jkd h q) = false → jkd h q ≠ 159 → ∀ i, jar h' q i = jar h q i) ∧ (jkd h q = 159 → ¬ S q → ∀ i, jar h' q i = jar h q i)) ∧
  (∀ q, jkd h q = 25 ∨ jkd h q = 28 → jfr h' 109 q = jfr h 109 q) ∧
  (∀ q, jkd h q = 25 → CelW D h (jfr h 108 q) → same h h' (jfr h 108 q) ∧ (jfr h 67 (jfr h 108 q) ≠ 0 → same h h' (jfr h 67 (jfr h 108 q)))) ∧
  (∀ c, 100 ≤ jkd h c → jkd h c ≤ 102 → CelW D h c → same h h' c ∧ (jfr h 67 c ≠ 0 → same h h' (jfr h 67 c))) ∧
  (∀ c, jkd h c = 98 ∨ jkd h c = 99 → CelW D h c → CelW D h' c) ∧
  (∀ q w, StR h q w → StR h' q w) ∧ (OW h → OW h') ∧ jsz h ≤ jsz h'
abbrev SF (D : JD) (h h' : JH) : Prop := SFg D (fun _ => False) h h'
theorem SFg.rf : SFg D S h h := ⟨fun _ _ => rfl, fun _ _ _ => ⟨rfl, fun _ => ⟨fun _ => rfl, rfl, fun _ _ => rfl⟩, fun _ _ => ⟨rfl, rfl⟩, fun _ _ _ => rfl, fun _ _ _ => rfl⟩, fun _ _ => rfl, fun _ _ _ => ⟨same.rf _ _, fun _ => same.rf _ _⟩, fun _ _ _ _ => ⟨same.rf _ _, fun _ => same.rf _ _⟩, fun _ _ k => k, fun _ _ k => k, id, Nat.le_refl _⟩
theorem SF.rf : SF D h h := SFg.rf
theorem SFg.mono (a : SFg D S h h') (hS : ∀ q, jkd h q ≠ 0 → S q → S' q) : SFg D S' h h' := by
  refine ⟨a.1, fun q hq hw => ?_, a.2.2⟩
  obtain ⟨x1, x2, x3, x4, x5⟩ := a.2.1 q hq hw
  exact ⟨x1, fun F => ⟨(x2 F).1, (x2 F).2.1, fun g1 g2 => (x2 F).2.2 g1 fun e z => g2 e (hS q hq z)⟩, x3, x4, fun e z => x5 e fun y => z (hS q hq y)⟩
theorem wkd_n : wkd 20 = false ∧ wkd 21 = false ∧ wkd 22 = false ∧ wkd 23 = false ∧ wkd 24 = false ∧ wkd 25 = false ∧ wkd 26 = false ∧ wkd 27 = false ∧ wkd 28 = false ∧ wkd 29 = false := by decide
theorem SFg.f8 (a : SFg D S h h') (k : 20 ≤ jkd h q ∧ jkd h q ≤ 29) : jfr h' 108 q = jfr h 108 q := by
  refine ((a.2.1 q (by omega) ?_).2.1 108).2.2 rfl (fun _ _ => by decide)
  rcases (show jkd h q = 20 ∨ jkd h q = 21 ∨ jkd h q = 22 ∨ jkd h q = 23 ∨ jkd h q = 24 ∨ jkd h q = 25 ∨ jkd h q = 26 ∨ jkd h q = 27 ∨ jkd h q = 28 ∨ jkd h q = 29 by omega) with e | e | e | e | e | e | e | e | e | e <;> rw [e] <;> rfl
theorem StrO.sf (k : StrO D h r) (a : SFg D S h h') (hI : JInv D h) : StrO D h' r := by
  obtain ⟨k1, k2, k3⟩ := k
  have k98 : jkd h (jfr h 108 r) = 98 := hI.ref (F := 108) (by decide +kernel) k3.1
  refine ⟨k1, by rw [a.1 r (by omega)]; exact k2, ?_⟩
  rw [a.f8 (by omega)]
  exact a.2.2.2.2.2.1 _ (Or.inl k98) k3
theorem SFg.tr (a : SFg D S h h') (b : SFg D S h' h'') (hI : JInv D h') : SFg D S h h'' := by
  obtain ⟨a1, a2, a3, a4, a5, a6, a7, a8, a9⟩ := a
  obtain ⟨b1, b2, b3, b4, b5, b6, b7, b8, b9⟩ := b
  refine ⟨fun q hq => (b1 q (by rw [a1 q hq]; exact hq)).trans (a1 q hq), fun q hq hw => ?_, fun q hq => ?_, fun q hq cw => ?_, fun c c1 c2 cw => ?_, fun c hc cw => ?_, fun q w k => b7 q w (a7 q w k), fun o => b8 (a8 o), by omega⟩
  · obtain ⟨x1, x2, x3, x4, x5⟩ := a2 q hq hw
    have kd := a1 q hq
    obtain ⟨y1, y2, y3, y4, y5⟩ := b2 q (by rw [kd]; exact hq) (by rw [kd]; exact hw)
    refine ⟨y1.trans x1, fun F => ⟨fun g => ((y2 F).1 g).trans ((x2 F).1 g), (y2 F).2.1.trans (x2 F).2.1, fun g z => ((y2 F).2.2 g (by rw [kd]; exact z)).trans ((x2 F).2.2 g z)⟩, fun g i => ⟨(y3 (by rw [kd]; exact g) i).1.trans (x3 g i).1, (y3 (by rw [kd]; exact g) i).2.trans (x3 g i).2⟩, fun g0 g i => (y4 (by rw [kd]; exact g0) (by rw [kd]; exact g) i).trans (x4 g0 g i), fun g z i => (y5 (by rw [kd]; exact g) z i).trans (x5 g z i)⟩
  · have kd := a1 q (by omega)
    exact (b3 q (by omega)).trans (a3 q hq)
  · have kd := a1 q (by omega)
    have e8 : jfr h' 108 q = jfr h 108 q := ((a2 q (by omega) (by rw [hq]; rfl)).2.1 108).2.2 rfl (fun _ _ => by decide)
    obtain ⟨s1, s2⟩ := a4 q hq cw
    have cw' : CelW D h' (jfr h 108 q) := cw.of s1 s2
    have := b4 q (by omega) (by rw [e8]; exact cw')
    rw [e8, s1.fr] at this
    exact ⟨s1.tr this.1, fun z => (s2 z).tr (this.2 z)⟩
  · obtain ⟨s1, s2⟩ := a5 c c1 c2 cw
    have := b5 c (by rw [s1.kd]; exact c1) (by rw [s1.kd]; exact c2) (cw.of s1 s2)
    rw [s1.fr] at this
    exact ⟨s1.tr this.1, fun z => (s2 z).tr (this.2 z)⟩
  · have kd := a1 c (by omega)
    exact b6 c (by omega) (a6 c hc cw)
/-- frames by kinds -/
theorem KF.sf (a : KF K h h') (hI : JInv D h) (hK : ∀ k, K k = true → wkd k = true ∧ k ≠ 12 ∧ k ≠ 98 ∧ k ≠ 99 ∧ k ≠ 144) : SF D h h' := by
  have nK : ∀ k, (wkd k = false ∨ k = 12 ∨ k = 98 ∨ k = 99 ∨ k = 144) → K k = false := fun k e => by
    cases z : K k with
    | false => rfl
    | true =>
      have := hK k z
      rcases e with e | e | e | e | e
      · rw [e] at this; exact absurd this.1 (by decide)
      · exact absurd e this.2.1
      · exact absurd e this.2.2.1
      · exact absurd e this.2.2.2.1
      · exact absurd e this.2.2.2.2
  have w144 : wkd 144 = true := by decide
  have sm : ∀ q, jkd h q ≠ 0 → wkd (jkd h q) = false → same h h' q := fun q q1 q2 => a.obj hI q1 (fun e => by rw [e, w144] at q2; cases q2) (nK _ (Or.inl q2))
  have w100 : wkd 100 = false ∧ wkd 101 = false ∧ wkd 102 = false ∧ wkd 25 = false ∧ wkd 28 = false := by decide
  refine ⟨a.2.2.1, fun q hq hw => ?_, fun q hq => ?_, fun q hq cw => ?_, fun c c1 c2 cw => ?_, fun c hc cw => ?_, fun q w k => a.str hI k ⟨nK 12 (by omega), nK 51 (Or.inl rfl), nK 66 (Or.inl rfl), nK 219 (Or.inl rfl)⟩, a.2.2.2, a.2.1⟩
  · have s := sm q hq hw
    exact ⟨s.ln, fun F => ⟨fun _ => s.fi F, s.fl F, fun _ _ => s.fr F⟩, fun _ i => ⟨s.ai i, s.al i⟩, fun _ _ i => s.ar i, fun _ _ i => s.ar i⟩
  · refine (sm q (by omega) ?_).fr 109
    rcases hq with e | e <;> rw [e] <;> rfl
  · have k98 : jkd h (jfr h 108 q) = 98 := hI.ref (F := 108) (by decide +kernel) cw.1
    exact a.cel0 hI cw (nK _ (by omega)) (nK _ (by omega))
  · refine a.cel0 hI cw (nK _ (Or.inl ?_)) (nK _ (by omega))
    rcases (show jkd h c = 100 ∨ jkd h c = 101 ∨ jkd h c = 102 by omega) with e | e | e <;> rw [e] <;> rfl
  · exact a.celW hI cw (nK _ (by omega)) (nK _ (by omega))
theorem jkk_lt {k : Nat} (h : jkk k = true) : k < 226 := by
  by_cases z : k < 226
  · exact z
  · have e : Nat.ble 226 k = true := Nat.ble_eq.mpr (by omega)
    unfold jkk at h
    rw [e] at h
    cases h
theorem wkd_no : ∀ k, k < 226 → wkd k = false → k ≠ 98 ∧ k ≠ 99 ∧ k ≠ 144 ∧ k ≠ 142 ∧ k ≠ 12 ∧ k ≠ 6 := by decide +kernel
/-- values are worked out -/
theorem EvF.sf (a : EvF D sc (EM h A ρ lo hi) h h') (hA : NOK A) (hI : JInv D h) (t : TreeR D h A ρ) (ow : OW h) (h56 : jfr h 56 sc ≠ 0) : SF D h h' := by
  have hW : ∀ c, EM h A ρ lo hi c → CelW D h c := fun c hc => (t.emW hI hc).1
  have k142 : jkd h (jfr h 56 sc) = 142 := hI.ref (F := 56) (by decide +kernel) h56
  have sm : ∀ q, jkd h q ≠ 0 → wkd (jkd h q) = false → same h h' q := fun q q1 q2 => by
    have w := wkd_no _ (jkk_lt (hI.1 q q1).2.2) q2
    refine a.1 q (hI.lt q1) (fun z => ?_) (fun c hc z => ?_) (fun z => ?_) w.2.2.2.2.1
    · have := (t.emW hI z).2
      omega
    · rcases (hW c hc).2.2.2.2 with g | g
      · rw [g] at z
        have := (hI.1 q q1).1
        omega
      · rw [← z] at g; exact w.2.2.1 g.1
    · rw [z] at w; exact w.2.2.2.1 k142
  refine ⟨a.2.2.2.2.2.1, fun q hq hw => ?_, fun q hq => ?_, fun q hq cw => ?_, fun c c1 c2 cw => ?_, fun c hc cw => ?_, a.2.2.2.2.2.2.2, a.2.2.1, a.2.2.2.1.1⟩
  · have s := sm q hq hw
    exact ⟨s.ln, fun F => ⟨fun _ => s.fi F, s.fl F, fun _ _ => s.fr F⟩, fun _ i => ⟨s.ai i, s.al i⟩, fun _ _ i => s.ar i, fun _ _ i => s.ar i⟩
  · refine (sm q (by omega) ?_).fr 109
    rcases hq with e | e <;> rw [e] <;> rfl
  · refine a.keep hI ow hW h56 cw ?_
    rintro ⟨k, k1, k2, k3, k4, k5⟩
    rcases k5 with e | ⟨e1, e2⟩
    · have eq := ow 108 _ _ (Or.inr (Or.inl rfl)) e cw.1
      have nr := t k k3
      rw [← eq] at nr
      have := nkd_op (hA k k3).2.2.1.op (nr.2.1.symm.trans hq)
      omega
    · have k98 : jkd h (jfr h 108 q) = 98 := hI.ref (F := 108) (by decide +kernel) cw.1
      have k99 : jkd h (jfr h 115 (ρ k)) = 99 := hI.ref (F := 115) (by decide +kernel) (by rw [← e2]; exact cw.1)
      rw [e2] at k98
      omega
  · refine a.keep hI ow hW h56 cw fun z => ?_
    have := (t.emW hI z).2
    omega
  · by_cases z : EM h A ρ lo hi c
    · exact (a.2.1 c z).2 cw
    · obtain ⟨s1, s2⟩ := a.keep hI ow hW h56 cw z
      exact cw.of s1 s2
/-- trees are checked -/
theorem CkF.sf (a : CkF sc (NM A ρ lo hi) h h') (hA : NOK A) (hI : JInv D h) (t : TreeR D h A ρ) (hs : jkd h sc = 6) : SF D h h' := by
  have mk : ∀ q, NM A ρ lo hi q → (20 ≤ jkd h q ∧ jkd h q ≤ 29) ∧ jkd h q ≠ 25 ∧ jkd h q ≠ 28 := fun q ⟨k, _, _, k3, e, k5, k6⟩ => by
    have nr := t k k3
    rw [← e] at nr
    have nk := nkd_ex (nat_ A k)
    have := nr.2.1
    have z := nkd_op (hA k k3).2.2.1.op nr.2.1.symm
    omega
  have sm : ∀ q, ¬ (20 ≤ jkd h q ∧ jkd h q ≤ 29) → jkd h q ≠ 6 → same h h' q := fun q q1 q2 => by
    have nM : ¬ NM A ρ lo hi q := fun z => q1 (mk q z).1
    have ns : q ≠ sc := fun z => by rw [z] at q2; exact q2 hs
    exact ⟨(a.1 q).1, (a.1 q).2, fun F => ⟨a.2.2.2.2.2 F q (fun _ => ns) (fun _ => nM), a.2.2.2.1 F q, a.2.2.2.2.1 F q fun _ => nM⟩, fun i => ⟨(a.2.2.1 q i).2.1, (a.2.2.1 q i).2.2, (a.2.2.1 q i).1⟩⟩
  have cs : ∀ c, CelW D h c → same h h' c ∧ (jfr h 67 c ≠ 0 → same h h' (jfr h 67 c)) := fun c cw => by
    have kc := cw.kd
    refine ⟨sm c (by omega) (by omega), fun z => ?_⟩
    have := (cw.2.2.2.2.resolve_left z).1
    exact sm _ (by omega) (by omega)
  refine ⟨fun q _ => (a.1 q).1, fun q hq hw => ?_, fun q hq => ?_, fun q hq cw => cs _ cw, fun c _ _ cw => cs c cw, fun c _ cw => cw.of (cs c cw).1 (cs c cw).2, fun q w k => ?_, fun o F x y hF => ?_, by rw [a.2.1.1]; exact Nat.le_refl _⟩
  · have w6 := (wkd_no _ (jkk_lt (hI.1 q hq).2.2) hw).2.2.2.2.2
    have ns : q ≠ sc := fun z => by rw [z] at w6; exact w6 hs
    refine ⟨(a.1 q).2, fun F => ⟨fun g => a.2.2.2.2.2 F q (fun _ => ns) (fun z => ?_), a.2.2.2.1 F q, fun g _ => a.2.2.2.2.1 F q fun z => ?_⟩, fun _ i => ⟨(a.2.2.1 q i).2.1, (a.2.2.1 q i).2.2⟩, fun _ _ i => (a.2.2.1 q i).1, fun _ _ i => (a.2.2.1 q i).1⟩
    · rcases z with e | e <;> rw [e] at g <;> cases g
    · rw [z] at g; cases g
  · refine a.2.2.2.2.1 109 q fun _ z => ?_
    have := mk q z
    omega
  · have z1 := k.2.1
    have z2 := k.2.2.2.2.1
    exact k.of (sm q (by omega) (by omega)) (sm _ (by omega) (by omega))
  · rw [a.2.2.2.2.1 F x (by omega), a.2.2.2.2.1 F y (by omega)]
    exact o F x y hF
/-- trees stay -/
theorem NodR.sf {nd : Nod} (k : NodR D h ρ nd r) (a : SFg D S h h') (hS : ¬ S r) (hI : JInv D h) (ho : ndO nd ≤ 14) : NodR D h' ρ nd r := by
  obtain ⟨k1, k2, k3, f0, f1, f2, f3, f4, f5, f6, f7, f8, f9⟩ := k
  have nk := nkd_ex nd
  have op := nkd_op ho rfl
  have wn : wkd (jkd h r) = false := by
    have := wkd_n
    rcases (show jkd h r = 20 ∨ jkd h r = 21 ∨ jkd h r = 22 ∨ jkd h r = 23 ∨ jkd h r = 24 ∨ jkd h r = 25 ∨ jkd h r = 26 ∨ jkd h r = 27 ∨ jkd h r = 28 ∨ jkd h r = 29 by omega) with e | e | e | e | e | e | e | e | e | e <;> rw [e] <;> rfl
  obtain ⟨x1, x2, x3, x4, x5⟩ := a.2.1 r (by omega) wn
  have fr : ∀ F, wfR F = false → jfr h' F r = jfr h F r := fun F g => (x2 F).2.2 g fun _ z => absurd z hS
  have fi : ∀ F, wfI F = false → jfi h' F r = jfi h F r := fun F g => (x2 F).1 g
  have k98 : jkd h (jfr h 108 r) = 98 := hI.ref (F := 108) (by decide +kernel) k3.1
  have st : ∀ q w, StR h q w → StR h' q w := a.2.2.2.2.2.2.1
  refine ⟨k1, (a.1 r (by omega)).trans k2, by rw [fr 108 rfl]; exact a.2.2.2.2.2.1 _ (Or.inl k98) k3, fun e => ?_, fun e => by rw [fi 110 rfl]; exact f1 e, fun e => ?_, fun e => ⟨fun z => ?_, fun z => ?_⟩, fun e => ?_, fun e => by rw [fi 128 rfl]; exact f5 e, fun e => by rw [fi 128 rfl]; exact f6 e, fun e => by rw [fr 123 rfl, fr 124 rfl, fr 125 rfl]; exact f7 e, fun e => ?_, fun e => by rw [fi 121 rfl, fr 122 rfl]; exact f9 e⟩
  · have k25 : jkd h r = 25 := by rw [k2]; omega
    obtain ⟨t1, t2⟩ := a.2.2.2.1 r k25 k3
    rw [fr 108 rfl, a.2.2.1 r (Or.inl k25)]
    exact ⟨(f0 e).1, (f0 e).2.of t1 t2⟩
  · rw [fr 118 rfl, fr 117 rfl]
    refine ⟨st _ _ (f2 e).1, ?_⟩
    have := (f2 e).2
    revert this
    cases ndF nd with
    | none => exact fun z => z
    | some w => exact fun z => st _ _ z
  · obtain ⟨a1, b1, c1⟩ := (f3 e).1 z
    have k99 : jkd h (jfr h 115 r) = 99 := hI.ref (F := 115) (by decide +kernel) c1.1
    rw [fr 113 rfl, fr 115 rfl, fi 114 rfl]
    exact ⟨st _ _ a1, b1, a.2.2.2.2.2.1 _ (Or.inr k99) c1⟩
  · rw [fr 116 rfl]; exact st _ _ ((f3 e).2 z)
  · obtain ⟨p1, p2, p3, p4, p5, p6⟩ := f4 e
    obtain ⟨y1, y2, y3, y4, y5⟩ := a.2.1 (jfr h 111 r) (by omega) (by rw [p2]; rfl)
    unfold PtsR
    rw [fr 111 rfl, fi 112 rfl, a.1 (jfr h 111 r) (by rw [p2]; decide), y1]
    exact ⟨p1, p2, p3, p4, p5, fun i x hx => by rw [y4 (by rw [p2]; rfl) (by omega)]; exact p6 i x hx⟩
  · have k28 : jkd h r = 28 := by rw [k2]; omega
    rw [fr 126 rfl, fi 127 rfl, a.2.2.1 r (Or.inr k28)]
    exact f8 e
theorem TreeR.sg (t : TreeR D h A ρ) (a : SFg D S h h') (hS : ∀ i, i < A.length → ¬ S (ρ i)) (hA : NOK A) (hI : JInv D h) : TreeR D h' A ρ := fun i il => (t i il).sf a (hS i il) hI (hA i il).2.2.1.op
theorem TreeR.sf (t : TreeR D h A ρ) (a : SF D h h') (hA : NOK A) (hI : JInv D h) : TreeR D h' A ρ := t.sg a (fun _ _ z => z) hA hI
end
