/-! frames by kinds -/
section
variable {D : JD} {h h' h'' : JH} {K K' : Nat → Bool} {q c t u r : Nat}
/-- objects stay but those of the kinds K, and characters of cells of these kinds -/
def KF (K : Nat → Bool) (h h' : JH) : Prop :=
  (∀ q, q ≤ jsz h → jkd h q ≠ 0 → K (jkd h q) = false → (jkd h q = 144 → ∃ c, c ≤ jsz h ∧ jkd h c ≠ 0 ∧ jkd h c ≠ 144 ∧ jfr h 67 c = q ∧ K (jkd h c) = false) → same h h' q) ∧ jsz h ≤ jsz h' ∧ (∀ q, jkd h q ≠ 0 → jkd h' q = jkd h q) ∧ (OW h → OW h')
theorem KF.rf : KF K h h := ⟨fun _ _ _ _ _ => same.rf _ _, Nat.le_refl _, fun _ _ => rfl, id⟩
theorem KF.tr (a : KF K h h') (b : KF K h' h'') : KF K h h'' := by
  obtain ⟨a1, a2, a3, a4⟩ := a
  obtain ⟨b1, b2, b3, b4⟩ := b
  refine ⟨fun q q1 q2 q3 q4 => ?_, by omega, fun q hq => (b3 q (by rw [a3 q hq]; exact hq)).trans (a3 q hq), fun o => b4 (a4 o)⟩
  have s := a1 q q1 q2 q3 q4
  refine s.tr (b1 q (by omega) (by rw [s.kd]; exact q2) (by rw [s.kd]; exact q3) fun e => ?_)
  rw [s.kd] at e
  obtain ⟨c, c1, c2, c3, c4, c5⟩ := q4 e
  have sc := a1 c c1 c2 c5 (fun z => absurd z c3)
  exact ⟨c, by omega, by rw [sc.kd]; exact c2, by rw [sc.kd]; exact c3, by rw [sc.fr]; exact c4, by rw [sc.kd]; exact c5⟩
theorem KF.mono (a : KF K h h') (hK : ∀ k, K k = true → K' k = true) : KF K' h h' := by
  have f : ∀ k, K' k = false → K k = false := fun k e => by
    cases z : K k with
    | false => rfl
    | true => rw [hK k z] at e; cases e
  refine ⟨fun q q1 q2 q3 q4 => a.1 q q1 q2 (f _ q3) fun e => ?_, a.2⟩
  obtain ⟨c, c1, c2, c3, c4, c5⟩ := q4 e
  exact ⟨c, c1, c2, c3, c4, f _ c5⟩
theorem KF.obj (a : KF K h h') (hI : JInv D h) (q0 : jkd h q ≠ 0) (q1 : jkd h q ≠ 144) (q2 : K (jkd h q) = false) : same h h' q := a.1 q (hI.lt q0) q0 q2 fun e => absurd e q1
theorem KF.cel0 (a : KF K h h') (hI : JInv D h) (hc : CelW D h c) (k1 : K (jkd h c) = false) (k2 : K 144 = false) : same h h' c ∧ (jfr h 67 c ≠ 0 → same h h' (jfr h 67 c)) := by
  have kc := hc.kd
  refine ⟨a.obj hI (by omega) (by omega) k1, fun h0 => ?_⟩
  have k4 := (hc.2.2.2.2.resolve_left h0).1
  exact a.1 _ hI.refl (by omega) (by rw [k4]; exact k2) fun _ => ⟨c, (hc.lt hI).1, by omega, by omega, rfl, k1⟩
theorem KF.celW (a : KF K h h') (hI : JInv D h) (hc : CelW D h c) (k1 : K (jkd h c) = false) (k2 : K 144 = false) : CelW D h' c :=
  hc.of (a.cel0 hI hc k1 k2).1 (a.cel0 hI hc k1 k2).2
theorem KF.cel {v : Val} (a : KF K h h') (hI : JInv D h) (hc : Cel D h c v) (k1 : K (jkd h c) = false) (k2 : K 144 = false) : Cel D h' c v :=
  hc.of (a.cel0 hI hc.1 k1 k2).1 (a.cel0 hI hc.1 k1 k2).2
theorem KF.str {w : Str} (a : KF K h h') (hI : JInv D h) (k : StR h q w) (k1 : K 12 = false ∧ K 51 = false ∧ K 66 = false ∧ K 219 = false) : StR h' q w := by
  have z1 := k.2.1
  have z2 := k.2.2.2.2.1
  refine k.of (a.obj hI (by omega) (by omega) ?_) (a.obj hI (by omega) (by omega) ?_)
  · rcases z1 with e | e <;> rw [e]
    · exact k1.1
    · exact k1.2.1
  · rcases z2 with e | e <;> rw [e]
    · exact k1.2.2.1
    · exact k1.2.2.2
theorem CelF.kf (hf : CelF h h' c) (hI : JInv D h) (hle : jle h h') (hc : CelW D h c) (ow : OW h) (k1 : K (jkd h c) = true) : KF K h h' := by
  refine ⟨fun q q1 q2 q3 q4 => hf.1 q q1 ?_, hf.2.2.2.1, hle.2.2, fun o => o.of (hf.2.2.1 o.tx) fun F q hF => hf.2.2.2.2.2.2.2 F q (by omega) (by omega)⟩
  rintro (z | z)
  · rw [z, k1] at q3; cases q3
  · rcases hc.2.2.2.2 with w | w
    · rw [w] at z
      have := (hI.1 q q2).1
      omega
    · rw [← z] at w
      obtain ⟨c', c1, c2, c3, c4, c5⟩ := q4 w.1
      have e := ow.tx c' c (c4.trans z) (by rw [c4]; have := (hI.1 q q2).1; omega)
      rw [e, k1] at c5
      cases c5
end
