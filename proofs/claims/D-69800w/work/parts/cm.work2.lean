/-! the component: BEGIN, COMMIT, ROLLBACK are worked out -/
section
variable {D : JD} {h h' h'' h1 h2 : JH} {ρ : Nat → Nat} {q c r i v k j d e sc n B B' u : Nat} {T T' S : List Tab} {y : Stm} {K : Nat → Bool} {w : Str}
theorem HS.kf (hh : HS h h') : KF (fun j => Nat.beq j 12) h h' := by
  have e : ∀ F q, jfr h' F q = jfr h F q := by
    rcases hh with rfl | ⟨r, s, hs, hk, rfl | ⟨rfl, hz⟩⟩ <;> exact fun _ _ => rfl
  have ek : ∀ q, jkd h' q = jkd h q := by
    rcases hh with rfl | ⟨r, s, hs, hk, rfl | ⟨rfl, hz⟩⟩ <;> exact fun _ => rfl
  refine ⟨fun q q1 _ q3 _ => hh.fr (jsz h) q q1 fun z => ?_, by rw [hh.sz.1]; exact Nat.le_refl _, fun q _ => ek q, fun o F a b hF => by rw [e, e]; exact o F a b hF⟩
  have q3 : Nat.beq (jkd h q) 12 = false := q3
  rw [z] at q3
  cases q3
theorem HS.tbs (hh : HS h h') (hI : JInv D h) (uw : TabW D h u) : TbS h h' u := hh.kf.tbs hI ⟨rfl, rfl, rfl, rfl, rfl⟩ uw
theorem TabR.hs {tb : Tab} (k : TabR D h u tb) (hh : HS h h') (hI : JInv D h) : TabR D h' u tb := by
  have s := hh.tbs hI k.1
  obtain ⟨k1, k2, ⟨c1, c2, c3, c4, c5⟩, k4, k5, k6⟩ := k
  obtain ⟨s1, s2, s3⟩ := s
  have sa : same h h' (jfr h 43 u) := hh.kf.obj hI (by omega) (by omega) (by rw [c2]; rfl)
  refine ⟨k1.of ⟨s1, s2, s3⟩, by rw [s1.fr]; exact hh.st k2, ?_, by rw [s1.fi]; exact k4, by rw [s1.fi]; exact k5, fun i r hr => ?_⟩
  · rw [s1.fr]
    refine ⟨c1, by rw [sa.kd]; exact c2, by rw [sa.ln]; exact c3, c4, fun i c hc => ?_⟩
    rw [sa.ar]
    have cr := c5 i c hc
    exact cr.of (hh.kf.obj hI (by rw [cr.2.1]; decide) (by rw [cr.2.1]; decide) (by rw [cr.2.1]; rfl)) fun q w z => hh.st z
  · obtain ⟨r1, r2⟩ := k6 i r hr
    have il : i < 100 := by
      have := (List.getElem?_eq_some_iff.mp hr).1
      have := k5.2
      omega
    obtain ⟨t1, t2⟩ := s3 i il r1
    refine ⟨by rw [s1.fr, s2.ar]; exact r1, fun c hc => ?_⟩
    unfold tce
    rw [s1.fr, s2.ar, t1.ar]
    exact (r2 c hc).of (t2 c (by omega)).1 (t2 c (by omega)).2
theorem BasR.hs (k : BasR D h B T) (hh : HS h h') (hI : JInv D h) : BasR D h' B T := by
  obtain ⟨k1, k2, k3⟩ := k
  have a39 : jkd h (jfr h 40 B) = 139 := hI.ref (F := 40) (by decide +kernel) k1.2.1.1
  have kB := k1.1.2
  have s1 : same h h' B := hh.kf.obj hI (by omega) (by omega) (by rcases kB with e | e <;> rw [e] <;> rfl)
  have s2 : same h h' (jfr h 40 B) := hh.kf.obj hI (by omega) (by omega) (by rw [a39]; rfl)
  refine ⟨k1.of s1 s2 fun j hj => (k1.2.2 j hj).of (hh.tbs hI (k1.2.2 j hj)), by rw [s1.fi]; exact k2, fun j tb ht => ?_⟩
  have : tba h' B j = tba h B j := by unfold tba; rw [s1.fr, s2.ar]
  rw [this]
  exact (k3 j tb ht).hs hh hI
theorem EngT.hs (k : EngT D h e T S) (hh : HS h h') (hI : JInv D h) : EngT D h' e T S ∧ same h h' e := by
  obtain ⟨⟨k1, k2⟩, ⟨k3, k4⟩, ⟨k5, k6⟩, k7, k8, k9⟩ := k
  have s : same h h' e := hh.kf.obj hI (by omega) (by omega) (by rw [k2]; rfl)
  have ef : ∀ F q, jfr h' F q = jfr h F q := by
    rcases hh with rfl | ⟨r, s, hs, hk, rfl | ⟨rfl, hz⟩⟩ <;> exact fun _ _ => rfl
  have ek : ∀ q, jkd h' q = jkd h q := by
    rcases hh with rfl | ⟨r, s, hs, hk, rfl | ⟨rfl, hz⟩⟩ <;> exact fun _ => rfl
  have ea : ∀ q i, jar h' q i = jar h q i := by
    rcases hh with rfl | ⟨r, s, hs, hk, rfl | ⟨rfl, hz⟩⟩ <;> exact fun _ _ => rfl
  refine ⟨⟨⟨k1, by rw [s.kd]; exact k2⟩, by rw [ef]; exact ⟨k3, k4.hs hh hI⟩, by rw [ef]; exact ⟨k5, k6.hs hh hI⟩, by rw [ef, ef, ef, ef]; exact k7, ⟨fun a b i j => by rw [ek, ek, ea, ea]; exact k8.1 a b i j, fun a b => by rw [ef, ef]; exact k8.2 a b⟩, hh.kf.2.2.2 k9⟩, s⟩
/-- what BEGIN, COMMIT, ROLLBACK do -/
def BrkP (D : JD) (e : Nat) (T S : List Tab) (w : Str) (h1 : JH) (x : Nat) (h' : JH) : Prop :=
  (w = sStr "begin" → x = jcs D 187 ∧ EngT D h' e T (if jfi h1 36 e = 0 then T else S) ∧ jfi h' 36 e = 1 ∧ ∀ F, F ≠ 36 → jfi h' F e = jfi h1 F e) ∧
  (w = sStr "commit" → x = (if jfi h1 37 e = 0 then jcs D 189 else jcs D 188) ∧ EngT D h' e (if jfi h1 37 e = 0 then T else S) (if jfi h1 37 e = 0 then T else S) ∧ jfi h' 36 e = 0 ∧ jfi h' 37 e = 0 ∧ ∀ F, F ≠ 36 → F ≠ 37 → jfi h' F e = jfi h1 F e) ∧
  (w ≠ sStr "begin" → w ≠ sStr "commit" → x = jcs D 188 ∧ EngT D h' e S S ∧ jfi h' 36 e = 0 ∧ jfi h' 37 e = 0 ∧ ∀ F, F ≠ 36 → F ≠ 37 → jfi h' F e = jfi h1 F e)
theorem w_brkWk (k : EngT D h e T S) (kc : BrkR h v w) (hd : 15 ≤ d) : cX42_work D d v e h (pR D h 64 (fun x h' => BrkP D e T S w h x h' ∧ ∃ h1, HS h h1 ∧ JInv D h1 ∧ EgF e h1 h') no) := by
  obtain ⟨d, rfl, he⟩ := dsucc hd
  refine JW.inv fun hI => t_X42_work ⟨kc.1, kc.2.2.1, JW.up (n := 4) (fun dd => useI0 (k_hash (d := dd) kc.2.2) ?_) (by omega)⟩
  rintro x1 h1 hI1 _ ⟨rfl, hh⟩
  obtain ⟨k1, s1⟩ := k.hs hh hI
  have st1 := hh.st kc.2.2
  have nb : sStr "begin" ≠ sStr "commit" := by decide +kernel
  have go : ∀ x3 : Int32, (x3 = 0 ∧ w = sStr "begin") ∨ (x3 = 1 ∧ w = sStr "commit") ∨ (x3 = -1 ∧ w ≠ sStr "begin" ∧ w ≠ sStr "commit") → W_X42_work_61 D d (pR D h 64 (fun x h' => BrkP D e T S w h x h' ∧ ∃ h1, HS h h1 ∧ JInv D h1 ∧ EgF e h1 h') no) e x3 h1 := fun x3 hx => by
    rcases hx with ⟨rfl, ew⟩ | ⟨rfl, ew⟩ | ⟨rfl, n1, n2⟩
    · refine ⟨fun _ => ⟨k.1.1, useR0 (w_begin k1 (by omega)) ?_⟩, fun z => absurd z (by decide), fun z => absurd rfl z⟩
      rintro x h2 hI2 _ ⟨a1, a2, a3, a4, a5⟩
      rw [s1.fi] at a2
      refine endR fun _ _ _ => ⟨⟨fun _ => ⟨a1, a2, a4, fun F hF => (a5 F hF).trans (s1.fi F)⟩, fun z => absurd (ew.symm.trans z) nb, fun z => absurd ew z⟩, h1, hh, hI1, a3⟩
    · refine ⟨fun z => absurd z (by decide), fun _ => ⟨k.1.1, useR0 (w_commit k1 (by omega)) ?_⟩, fun _ z => absurd rfl z⟩
      rintro x h2 hI2 _ ⟨a1, a2, a3, a4, a5, a6⟩
      rw [s1.fi] at a1 a2
      refine endR fun _ _ _ => ⟨⟨fun z => absurd (z.symm.trans ew) nb, fun _ => ⟨a1, a2, a4, a5, fun F g1 g2 => (a6 F g1 g2).trans (s1.fi F)⟩, fun _ z => absurd ew z⟩, h1, hh, hI1, a3⟩
    · refine ⟨fun z => absurd z (by decide), fun z => absurd z (by decide), fun _ _ => ⟨k.1.1, useR0 (w_rollback k1 (by omega)) ?_⟩⟩
      rintro x h2 hI2 _ ⟨a1, a2, a3, a4, a5, a6⟩
      refine endR fun _ _ _ => ⟨⟨fun z => absurd z n1, fun z => absurd z n2, fun _ _ => ⟨a1, a2, a4, a5, fun F g1 g2 => (a6 F g1 g2).trans (s1.fi F)⟩⟩, h1, hh, hI1, a3⟩
  have hc : jhash (sStr "commit") = -1354815177 := by decide +kernel
  have hb : jhash (sStr "begin") = 93616297 := by decide +kernel
  have ne : ∀ {s : String} {x : Int32} (z : Int32), jhash (sStr s) = x → jhash w = z → x ≠ z → w ≠ sStr s := fun z e1 e2 e3 e => by
    rw [e] at e2
    exact e3 (e1.symm.trans e2)
  refine ⟨fun g => ?_, fun g => ?_, fun g1 g2 => ?_⟩
  · exact w_eq' (w := "commit") st1 ⟨by decide, by decide +kernel⟩ (by omega) (fun z => go 1 (Or.inr (Or.inl ⟨rfl, z⟩))) fun z => go (-1) (Or.inr (Or.inr ⟨rfl, ne _ hb g (by decide), z⟩))
  · exact w_eq' (w := "begin") st1 ⟨by decide, by decide +kernel⟩ (by omega) (fun z => go 0 (Or.inl ⟨rfl, z⟩)) fun z => go (-1) (Or.inr (Or.inr ⟨rfl, z, ne _ hc g (by decide)⟩))
  · exact go (-1) (Or.inr (Or.inr ⟨rfl, fun z => g2 (by rw [z]; exact hb), fun z => g1 (by rw [z]; exact hc)⟩))
end
