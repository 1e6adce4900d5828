/-! the component: statements in the heap stay -/
section
variable {D : JD} {h h' h'' : JH} {ρ : Nat → Nat} {A : List Nod} {q c r i v k : Nat} {y : Stm} {S : Nat → Prop}
theorem SFg.at (a : SFg D S h h') (e : jkd h q = k) (k0 : k ≠ 0 ∧ wkd k = false ∧ k ≠ 24) : jkd h' q = k ∧ jln h' q = jln h q ∧ (∀ F, wfI F = false → jfi h' F q = jfi h F q) ∧ (∀ F, jfl h' F q = jfl h F q) ∧ (∀ F, wfR F = false → jfr h' F q = jfr h F q) ∧ (wkA k = false → ∀ i, jai h' q i = jai h q i) ∧ (wkA k = false → k ≠ 159 → ∀ i, jar h' q i = jar h q i) := by
  subst e
  obtain ⟨x1, x2, x3, x4, x5⟩ := a.2.1 q k0.1 k0.2.1
  exact ⟨a.1 q k0.1, x1, fun F => (x2 F).1, fun F => (x2 F).2.1, fun F g => (x2 F).2.2 g fun z => absurd z k0.2.2, fun g i => (x3 g i).1, x4⟩
theorem AR.sf {kk ln : Nat} (z : AR h r kk ln) (a : SFg D S h h') (k0 : kk ≠ 0 ∧ wkd kk = false ∧ kk ≠ 24) : AR h' r kk ln := by
  obtain ⟨z1, z2, z3⟩ := z
  have s := a.at z2 k0
  exact ⟨z1, s.1, s.2.1.trans z3⟩
theorem StsR.sf {kk ln : Nat} {l : List Str} (z : AR h r kk ln) (k0 : kk ≠ 0 ∧ wkd kk = false ∧ kk ≠ 24) (kA : wkA kk = false ∧ kk ≠ 159) (e : StsR h r l) (a : SFg D S h h') : StsR h' r l := fun i w hw => by
  rw [(a.at z.2.1 k0).2.2.2.2.2.2 kA.1 kA.2]
  exact a.2.2.2.2.2.2.1 _ _ (e i w hw)
theorem ExsR.sf {kk ln : Nat} {l : List Nat} (z : AR h r kk ln) (k0 : kk ≠ 0 ∧ wkd kk = false ∧ kk ≠ 24) (kA : wkA kk = false ∧ kk ≠ 159) (e : ExsR h ρ r l) (a : SFg D S h h') : ExsR h' ρ r l := fun i w hw => by
  rw [(a.at z.2.1 k0).2.2.2.2.2.2 kA.1 kA.2]
  exact e i w hw
theorem ColsR.sf {l : List Col} (z : ColsR D h r l) (a : SFg D S h h') : ColsR D h' r l := by
  obtain ⟨c1, c2, c3, c4, c5⟩ := z
  have s := a.at c2 (by decide)
  refine ⟨c1, s.1, s.2.1.trans c3, c4, fun i c hc => ?_⟩
  rw [s.2.2.2.2.2.2 rfl (by decide)]
  obtain ⟨k1, k2, k3, k4, k5, k6⟩ := c5 i c hc
  have t := a.at k2 (by decide)
  exact ⟨k1, t.1, by rw [t.2.2.2.2.1 92 rfl]; exact a.2.2.2.2.2.2.1 _ _ k3, by rw [t.2.2.2.2.1 93 rfl]; exact k4, by rw [t.2.2.1 94 rfl]; exact k5, by rw [t.2.2.1 95 rfl]; exact k6⟩
theorem CreR.sf (z : CreR D h v y) (a : SFg D S h h') : CreR D h' v y := by
  obtain ⟨z1, z2, z3, z4, z5⟩ := z
  have s := a.at z2 (by decide)
  exact ⟨z1, s.1, by rw [s.2.2.2.2.1 96 rfl]; exact a.2.2.2.2.2.2.1 _ _ z3, by rw [s.2.2.2.2.1 97 rfl]; exact z4.sf a, by rw [s.2.2.1 98 rfl]; exact z5⟩
theorem DrpR.sf (z : DrpR h v y) (a : SFg D S h h') : DrpR h' v y := by
  obtain ⟨z1, z2, z3⟩ := z
  have s := a.at z2 (by decide)
  exact ⟨z1, s.1, by rw [s.2.2.2.2.1 99 rfl]; exact a.2.2.2.2.2.2.1 _ _ z3⟩
theorem BrkR.sf {w : Str} (z : BrkR h v w) (a : SFg D S h h') : BrkR h' v w := by
  obtain ⟨z1, z2, z3⟩ := z
  have s := a.at z2 (by decide)
  exact ⟨z1, s.1, by rw [s.2.2.2.2.1 165 rfl]; exact a.2.2.2.2.2.2.1 _ _ z3⟩
theorem RwR.sf {w : Str} (z : RwR h v w) (hk : jkd h v = 30 ∨ jkd h v = 32) (a : SFg D S h h') : RwR h' v w := by
  obtain ⟨z1, ⟨y1, y2, y3, y4, y5⟩⟩ := z
  have s : ∀ F, wfR F = false → jfr h' F v = jfr h F v := by
    rcases hk with e | e
    · exact (a.at e (by decide)).2.2.2.2.1
    · exact (a.at e (by decide)).2.2.2.2.1
  have t := a.at y2 (by decide)
  refine ⟨by rw [s 129 rfl]; exact a.2.2.2.2.2.2.1 _ _ z1, ?_⟩
  rw [s 130 rfl]
  exact ⟨y1, t.1, by rw [t.2.2.2.2.1 136 rfl]; exact a.2.2.2.2.2.2.1 _ _ y3, by rw [t.2.2.1 139 rfl]; exact y4, by rw [t.2.2.2.2.1 140 rfl]; exact y5⟩
theorem DelR.sf (z : DelR h ρ v y) (a : SFg D S h h') : DelR h' ρ v y := by
  obtain ⟨z1, z2, z3, z4⟩ := z
  have s := a.at z2 (by decide)
  exact ⟨z1, s.1, z3.sf (Or.inr z2) a, by rw [s.2.2.2.2.1 131 rfl]; exact z4⟩
theorem UpdR.sf (z : UpdR h ρ v y) (a : SFg D S h h') : UpdR h' ρ v y := by
  obtain ⟨xs, x1, ⟨⟨u1, u1', u1''⟩, u2, ⟨u3, u4, u5⟩, ⟨u6, u7, u8⟩, u9, u10, u11, u12⟩, x3⟩ := z
  have s := a.at u1'' (by decide)
  have fr := s.2.2.2.2.1
  refine ⟨xs, x1, ⟨⟨u1, u1', s.1⟩, u2.sf (Or.inl u1'') a, ?_, ?_, ?_, by rw [s.2.2.1 135 rfl]; exact u10, u11, u12⟩, by rw [fr 131 rfl]; exact x3⟩
  · rw [fr 132 rfl]
    exact ⟨u3, u4.sf a (by decide), StsR.sf u4 (by decide) (by decide) u5 a⟩
  · rw [fr 133 rfl]
    exact ⟨u6, u7.sf a (by decide), ExsR.sf u7 (by decide) (by decide) u8 a⟩
  · rw [fr 134 rfl]
    exact u9.sf a (by decide)
theorem InsR.sf (z : InsR h ρ v y) (a : SFg D S h h') : InsR h' ρ v y := by
  obtain ⟨N, ⟨⟨u1, u1', u1''⟩, u2, ⟨u3, u4, u5⟩, u6, ⟨u7, u8⟩, ⟨u9, u10⟩, u11, u12, ⟨w1, w2, w3⟩⟩⟩ := z
  have s := a.at u1'' (by decide)
  have fr := s.2.2.2.2.1
  have t8 := a.at u8.2.1 (by decide)
  have t10 := a.at u10.2.1 (by decide)
  refine ⟨N, ⟨u1, u1', s.1⟩, by rw [fr 100 rfl]; exact a.2.2.2.2.2.2.1 _ _ u2, ?_, by rw [s.2.2.1 102 rfl]; exact u6, ?_, ?_, by rw [s.2.2.1 105 rfl]; exact u11, ?_, ?_⟩
  · rw [fr 101 rfl]
    exact ⟨u3, u4.sf a (by decide), StsR.sf u4 (by decide) (by decide) u5 a⟩
  · rw [fr 103 rfl]
    exact ⟨u7, u8.sf a (by decide)⟩
  · rw [fr 104 rfl]
    exact ⟨u9, u10.sf a (by decide)⟩
  · rw [fr 106 rfl]
    exact u12.sf a (by decide)
  · rw [fr 103 rfl, fr 104 rfl]
    refine ⟨fun i row hr => ?_, fun i j hi hj e => w2 i j hi hj ?_, fun i hi => by rw [t10.2.2.2.2.2.1 rfl]; exact w3 i hi⟩
    · rw [t8.2.2.2.2.2.2 rfl (by decide), t10.2.2.2.2.2.1 rfl]
      obtain ⟨⟨b1, b2, b3⟩, b4⟩ := w1 i row hr
      exact ⟨⟨b1, b2.sf a (by decide), ExsR.sf b2 (by decide) (by decide) b3 a⟩, b4⟩
    · rw [t8.2.2.2.2.2.2 rfl (by decide), t8.2.2.2.2.2.2 rfl (by decide)] at e
      exact e
theorem OsR.sf {o : Option Str} (z : OsR h v o) (a : SFg D S h h') : OsR h' v o := by
  cases o with
  | none => exact z
  | some w => exact a.2.2.2.2.2.2.1 _ _ z
theorem SelR.sf (z : SelR h ρ v y) (a : SFg D S h h') : SelR h' ρ v y := by
  obtain ⟨N, L, ⟨⟨u1, u1', u1''⟩, ua⟩, ⟨i1, i2, i3⟩, ⟨s1, s2, s3⟩, ⟨g1, g2, g3⟩, ⟨o1, o2, o3⟩, ⟨x1, x2, x3, x4, x5⟩⟩ := z
  have s := a.at u1'' (by decide)
  have fr := s.2.2.2.2.1
  have fi := s.2.2.1
  have sa : ∀ x ∈ selA, wfR x.1 = false ∧ x.2.1 ≠ 0 ∧ wkd x.2.1 = false ∧ x.2.1 ≠ 24 := by decide
  have m1 := ua (142, 152, 12) (by decide)
  have m2 := ua (144, 153, 3) (by decide)
  have m3 := ua (147, 154, 8) (by decide)
  have m4 := ua (150, 155, 8) (by decide)
  have m5 := ua (151, 156, 8) (by decide)
  refine ⟨N, L, ⟨⟨u1, u1', s.1⟩, fun x hx => ?_⟩, ⟨fun i it hi => ?_, by rw [fi 143 rfl]; exact i2, i3⟩, ⟨fun i it hi => ?_, by rw [fi 145 rfl]; exact s2, s3⟩, ⟨?_, by rw [fi 148 rfl]; exact g2, g3⟩, ⟨fun i x hx => ?_, by rw [fi 153 rfl]; exact o2, o3⟩, ⟨by rw [fi 141 rfl]; exact x1, by rw [fr 146 rfl]; exact x2, by rw [fr 149 rfl]; exact x3, by rw [s.2.2.2.1]; exact x4, by rw [s.2.2.2.1]; exact x5⟩⟩
  · obtain ⟨e1, e2⟩ := sa x hx
    rw [fr x.1 e1]
    exact ⟨(ua x hx).1, (ua x hx).2.sf a e2⟩
  · have t := a.at m1.2.2.1 (by decide)
    rw [fr 142 rfl, t.2.2.2.2.2.2 rfl (by decide)]
    obtain ⟨b1, b2, b3, b4, b5, b6⟩ := i1 i it hi
    have t' := a.at b3 (by decide)
    refine ⟨b1, b2, t'.1, by rw [t'.2.2.1 161 rfl]; exact b4, fun e => ?_, fun e => ?_⟩
    · rw [t'.2.2.2.2.1 162 rfl]; exact (b5 e).sf a
    · rw [t'.2.2.2.2.1 163 rfl, t'.2.2.2.2.1 164 rfl]; exact ⟨(b6 e).1, (b6 e).2.sf a⟩
  · have t := a.at m2.2.2.1 (by decide)
    rw [fr 144 rfl, t.2.2.2.2.2.2 rfl (by decide)]
    obtain ⟨b1, b2, b3, b4, b5, b6, b7⟩ := s1 i it hi
    have t' := a.at b3 (by decide)
    exact ⟨b1, b2, t'.1, by rw [t'.2.2.2.2.1 137 rfl]; exact a.2.2.2.2.2.2.1 _ _ b4, by rw [t'.2.2.2.2.1 136 rfl]; exact a.2.2.2.2.2.2.1 _ _ b5, by rw [t'.2.2.1 139 rfl]; exact b6, by rw [t'.2.2.2.2.1 140 rfl]; exact b7⟩
  · rw [fr 147 rfl]
    exact ExsR.sf m3.2 (by decide) (by decide) g1 a
  · have t := a.at m4.2.2.1 (by decide)
    have t5 := a.at m5.2.2.1 (by decide)
    rw [fr 150 rfl, fr 151 rfl, t.2.2.2.2.2.2 rfl (by decide), t5.2.2.2.2.2.1 rfl]
    exact o1 i x hx
/-- a statement stays while statements are checked and worked out -/
theorem StmR.sg (z : StmR D h ρ v y) (a : SFg D S h h') (hS : ∀ i, i < (smA y).length → ¬ S (ρ i)) (hA : NOK (smA y)) (hI : JInv D h) : StmR D h' ρ v y := by
  obtain ⟨z0, z1, z2, z3, z4, z5, z8, zt, zr⟩ := z
  exact ⟨fun e => (z0 e).sf a, fun e => (z1 e).sf a, fun e => (z2 e).sf a, fun e => (z3 e).sf a, fun e => (z4 e).sf a, fun e => (z5 e).sf a, fun e => (z8 e).sf a, zt.sg a hS hA hI, zr⟩
theorem StmR.sf (z : StmR D h ρ v y) (a : SF D h h') (hA : NOK (smA y)) (hI : JInv D h) : StmR D h' ρ v y := z.sg a (fun _ _ z => z) hA hI
end
