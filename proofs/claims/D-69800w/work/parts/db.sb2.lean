/-! StringBuilder: append of a string, of a small number -/
section
variable {D : JD} {h h' h1 h2 : JH} {d b q r n p a : Nat} {s t : List Int32}
/-- the bytes t are written into a from p on -/
def AfR (h h2 : JH) (a p : Nat) (t : List Int32) : Prop :=
  (∀ q, jkd h2 q = jkd h q ∧ jln h2 q = jln h q) ∧ (∀ F q, jfi h2 F q = jfi h F q ∧ jfl h2 F q = jfl h F q ∧ jfr h2 F q = jfr h F q) ∧ (∀ q i, jal h2 q i = jal h q i ∧ jar h2 q i = jar h q i) ∧ (∀ q i, ¬ (q = a ∧ p ≤ i ∧ i < p + t.length) → jai h2 q i = jai h q i) ∧ (∀ (k : Nat) c, t[k]? = some c → jai h2 a (p + k) = c) ∧ jsz h2 = jsz h ∧ jus h2 = jus h
theorem SbR.fill (k : SbR h b s) (hc : s.length + t.length ≤ jln h (jfr h 71 b)) (ht : ∀ c ∈ t, jby c) (f : AfR h h2 (jfr h 71 b) s.length t) : SbS h (wfi h2 74 b (nI (s.length + t.length))) b (s ++ t) := by
  obtain ⟨b0, b1, b2, b3, b4, b5, b6, b7, b8, b9, b10⟩ := k
  obtain ⟨f1, f2, f3, f4, f5, f6, f7⟩ := f
  have er : ∀ F q, jfr (wfi h2 74 b (nI (s.length + t.length))) F q = jfr h F q := fun F q => (f2 F q).2.2
  have en : ∀ q, jln (wfi h2 74 b (nI (s.length + t.length))) q = jln h q := fun q => (f1 q).2
  have ea : ∀ q i, jai (wfi h2 74 b (nI (s.length + t.length))) q i = jai h2 q i := fun _ _ => rfl
  have inr : ∀ i, s.length ≤ i → i < s.length + t.length → ∃ c, t[i - s.length]? = some c ∧ jai h2 (jfr h 71 b) i = c := fun i h1 h2 => by
    have kl : i - s.length < t.length := by omega
    have hk := List.getElem?_eq_getElem kl
    have := f5 _ _ hk
    rw [show s.length + (i - s.length) = i by omega] at this
    exact ⟨_, hk, this⟩
  refine ⟨⟨(f1 b).1.trans b0, b1, ?_, ?_, by rw [er]; exact b4, by rw [er]; exact (f1 _).1.trans b5, by rw [er, en, List.length_append]; exact hc, by rw [er, en]; exact b7, by rw [er, en]; exact b8, fun i c hi => ?_, fun i hi => ?_⟩, fun q hq hM => ?_, Or.inl (er 71 b), by show jsz h ≤ jsz h2; omega, ?_, ?_, fun F q _ => er F q, fun q i => (f3 q i).2⟩
  · rw [jfi_wfi, if_neg (by omega), (f2 72 b).1]; exact b2
  · rw [jfi_wfi, if_pos ⟨rfl, rfl⟩, List.length_append]
  · rw [er, ea]
    rw [List.getElem?_append] at hi
    by_cases il : i < s.length
    · rw [if_pos il] at hi
      rw [f4 _ _ (by omega)]
      exact b9 i c hi
    · rw [if_neg il] at hi
      have kl := (List.getElem?_eq_some_iff.mp hi).1
      obtain ⟨c', g1, g2⟩ := inr i (by omega) (by omega)
      rw [hi] at g1
      cases g1
      exact ⟨g2, ht c (List.mem_of_getElem? hi)⟩
  · rw [er, en] at hi
    rw [er, ea]
    by_cases z : s.length ≤ i ∧ i < s.length + t.length
    · obtain ⟨c', g1, g2⟩ := inr i z.1 z.2
      rw [g2]
      exact ht c' (List.mem_of_getElem? g1)
    · rw [f4 _ _ (by omega)]
      exact b10 i hi
  · have hq1 : q ≠ b := fun z => hM (Or.inl z)
    have hq2 : q ≠ jfr h 71 b := fun z => hM (Or.inr z)
    refine ⟨(f1 q).1, (f1 q).2, fun F => ⟨?_, (f2 F q).2.1, (f2 F q).2.2⟩, fun i => ⟨f4 q i (fun z => hq2 z.1), (f3 q i).1, (f3 q i).2⟩⟩
    rw [jfi_wfi, if_neg fun z => hq1 z.2]
    exact (f2 F q).1
  · rw [er, en]
    show jsz h2 + _ ≤ _
    omega
  · rw [er, en]
    show jus h2 + _ ≤ _
    omega
/-- append of a string -/
theorem k_sbApp3 (hb : SbR h b s) (hq : StR h q t) (hn : s.length + t.length ≤ 2 * jln h (jfr h 71 b) + 2) (hm : s.length + t.length ≤ 40000) (hd : 7 ≤ d) :
    cJ13_append_3 D d b q h (pR D h 11 (fun v h' => v = b ∧ SbS h h' b (s ++ t) ∧ (jln h' (jfr h' 71 b) ≤ jln h (jfr h 71 b) ∨ jln h' (jfr h' 71 b) ≤ 2 * (s.length + t.length))) no) := by
  obtain ⟨d, rfl, he⟩ := dsucc (show 1 ≤ d by omega)
  have key : cJ12_append_3 D d b q h (pR D h 62 (fun v h' => v = b ∧ SbS h h' b (s ++ t) ∧ (jln h' (jfr h' 71 b) ≤ jln h (jfr h 71 b) ∨ jln h' (jfr h' 71 b) ≤ 2 * (s.length + t.length))) no) := by
    obtain ⟨d, rfl, he⟩ := dsucc (show 1 ≤ d by omega)
    refine JW.inv fun hI => t_J12_append_3 ⟨fun _ => JW.up (n := 2) (fun dd => useI0 (k_length (d := dd) hq) ?_) (by omega), fun z => absurd z hq.1⟩
    rintro v h1 hI1 _ ⟨rfl, he1⟩
    have he1 := he1.symm
    subst he1
    refine ⟨hb.2.1, ?_⟩
    rw [hb.2.2.2.1, nI_add]
    refine JW.up (n := 4) (fun dd => useV0 (k_ensure (d := dd) hb rfl (by omega) (by omega) hn) ?_) (by omega)
    rintro h2 hI2 _ ⟨s2, c1, c2⟩
    have b2 := s2.1
    have hbz : b ≤ jsz h := hI.lt (by rw [hb.1]; decide)
    have qz := hq.lt hI
    have qk := hq.2.1
    have qk2 := hq.2.2.2.2.1
    have hk := hb.1
    have ha := hb.2.2.2.2.2.1
    have hq2 : StR h2 q t := hq.fr hI s2.2.1 (fun z => by rcases z with z | z <;> rw [z] at qk <;> omega) (fun z => by rcases z with z | z <;> rw [z] at qk2 <;> omega)
    have put : cJ12_putStringAt D d b (jfi h2 74 b) q h2 (pV D h2 (fun h' => h' = cpa h2 (jfr h2 75 q) 0 (jfr h2 71 b) s.length t.length) no) := by
      obtain ⟨d, rfl, he⟩ := dsucc (show 1 ≤ d by omega)
      refine t_J12_putStringAt ⟨b2.2.1, ?_⟩
      refine useV0 (K := fun h' => h' = h2) ?_ ?_
      · obtain ⟨d, rfl, he⟩ := dsucc (show 1 ≤ d by omega)
        refine t_J12_inflateIfNeededFor ⟨b2.2.1, hq2.1, JW.up (n := 1) (fun dd => useI0 (k_coder (d := dd) hq2) ?_) (by omega)⟩
        rintro v h3 hI3 _ ⟨rfl, he3⟩
        have he3 := he3.symm
        subst he3
        exact ⟨fun _ => (show pV D h2 (fun h' => h' = h2) no (.inl none) h2 from endV fun _ _ => rfl), fun z => absurd b2.2.2.1 z⟩
      · rintro h3 hI3 _ he3
        have he3 := he3.symm
        subst he3
        refine ⟨hq2.1, ?_⟩
        rw [b2.2.2.1, b2.2.2.2.1]
        obtain ⟨d, rfl, he⟩ := dsucc (show 1 ≤ d by omega)
        refine useV0 (K := fun h' => h' = cpa h2 (jfr h2 75 q) 0 (jfr h2 71 b) s.length t.length) (t_J5_getBytes ⟨hq2.1, JW.up (n := 1) (fun dd => useI0 (k_coder (d := dd) hq2) ?_) (by omega)⟩) fun h' _ _ z => endV fun _ _ => z
        rintro v h3 hI3 _ ⟨rfl, he3⟩
        have he3 := he3.symm
        subst he3
        have e0 : (0 : Int32) &&& 31 = 0 := by decide
        have e1 : nI s.length <<< ((0 : Int32) &&& 31) = nI s.length := by rw [pk_shlN ((0 : Int32) &&& 31) 0 (by decide) (by omega)]; simp
        refine ⟨fun z => absurd rfl z, fun _ => ⟨hq2.2.2.2.1, Or.inr (by rw [b2.2.2.2.2.2.1]; rfl), b2.2.2.2.2.1, ?_⟩⟩
        have ln := hq2.2.2.2.2.2.1
        rw [e1, ln, ixn_nI (by omega), ixn_nI (by omega), show ixn (0 : Int32) = 0 from rfl]
        refine ⟨⟨by decide, nI_pos (by omega), nI_pos (by omega), ?_, ?_, fun i hi => ?_⟩, ?_⟩
        · rw [ixn_nI (by omega), show ixn (0 : Int32) = 0 from rfl, ln]; omega
        · rw [ixn_nI (by omega), ixn_nI (by omega)]; omega
        · rw [ixn_nI (by omega)] at hi
          rw [show ixn (0 : Int32) = 0 from rfl, Nat.zero_add]
          have g := hq2.2.2.2.2.2.2.2.1 i _ (List.getElem?_eq_getElem hi)
          rw [g.1]
          exact g.2.ft
        · rintro h5 rfl
          exact (show pV D h2 (fun h' => h' = cpa h2 (jfr h2 75 q) 0 (jfr h2 71 b) s.length t.length) no (.inl none) _ from endV fun _ _ => rfl)
    refine useV0 put ?_
    rintro h3 hI3 _ rfl
    rintro h4 rfl
    have e74 : jfi (cpa h2 (jfr h2 75 q) 0 (jfr h2 71 b) s.length t.length) 74 b = nI s.length := b2.2.2.2.1
    rw [e74, nI_add]
    have ne : jfr h2 75 q ≠ jfr h2 71 b := fun z => by
      have := hq2.2.2.2.2.1
      rw [z, b2.2.2.2.2.2.1] at this
      omega
    have fl := b2.fill (t := t) (h2 := cpa h2 (jfr h2 75 q) 0 (jfr h2 71 b) s.length t.length) c1 (fun c hc => by
      obtain ⟨i, il, hi⟩ := List.getElem_of_mem hc
      exact (hq2.2.2.2.2.2.2.2.1 i c (by rw [List.getElem?_eq_getElem il, hi])).2) ⟨fun _ => ⟨rfl, rfl⟩, fun _ _ => ⟨rfl, rfl, rfl⟩, fun _ _ => ⟨rfl, rfl⟩, fun q' i hz => by rw [jai_cpa, if_neg hz], fun k c hk => by
        have kl := (List.getElem?_eq_some_iff.mp hk).1
        rw [jai_cpa, if_pos ⟨rfl, by omega, by omega⟩, show 0 + (s.length + k - s.length) = k by omega]
        exact (hq2.2.2.2.2.2.2.2.1 k c hk).1, rfl, rfl⟩
    exact endR fun _ _ _ => ⟨rfl, s2.tr fl, c2⟩
  refine t_J13_append_3 ⟨hb.2.1, useR0 key ?_⟩
  rintro v h' _ _ ⟨rfl, hp⟩
  exact endR fun _ _ _ => ⟨rfl, hp⟩
/-- the tables of digits -/
def JDg (D : JD) : Prop := (jcs D 348 ≠ 0 ∧ jln (jh0 D) (jcs D 348) = 100 ∧ ∀ n, n < 100 → jai (jh0 D) (jcs D 348) n = nI (48 + n % 10)) ∧ (jcs D 349 ≠ 0 ∧ jln (jh0 D) (jcs D 349) = 100 ∧ ∀ n, n < 100 → jai (jh0 D) (jcs D 349) n = nI (48 + n / 10))
theorem JDg.at (k : JDg D) (hI : JInv D h) : (jln h (jcs D 348) = 100 ∧ ∀ n, n < 100 → jai h (jcs D 348) n = nI (48 + n % 10)) ∧ (jln h (jcs D 349) = 100 ∧ ∀ n, n < 100 → jai h (jcs D 349) n = nI (48 + n / 10)) := by
  obtain ⟨i1, i2, i3, i4, i5, i6, i7, i8⟩ := hI
  have o1 := i6 _ (i8.1 348 (by decide)).1
  have o2 := i6 _ (i8.1 349 (by decide)).1
  exact ⟨⟨o1.2.1.trans k.1.2.1, fun n hn => (o1.2.2.2 n).1.trans (k.1.2.2 n hn)⟩, ⟨o2.2.1.trans k.2.2.1, fun n hn => (o2.2.2.2 n).1.trans (k.2.2.2 n hn)⟩⟩
/-- the digits of a small number -/
def dg3 (n : Nat) : List Int32 := if n < 10 then [nI (48 + n)] else if n < 100 then [nI (48 + n / 10), nI (48 + n % 10)] else [nI (48 + n / 100), nI (48 + n % 100 / 10), nI (48 + n % 100 % 10)]
theorem dg3_len : (dg3 n).length = sz3 n := by
  unfold dg3 sz3
  split
  · rfl
  · split
    · rfl
    · rfl
theorem dg3_spec : ∀ n, n < 1000 → sDigits (Int64.ofNat n) = dg3 n := by decide +kernel
theorem dg3_by : ∀ n, n < 1000 → ∀ c ∈ dg3 n, (Int32.toInt8 c).toInt32 = c := by decide +kernel
theorem dg3_ar : ∀ n, n < 1000 → (-(nI n)) / 100 = -(nI (n / 100)) ∧ (((-(nI n)) / 100) * 100) - (-(nI n)) = nI (n % 100) ∧ -(-(nI n)) = nI n ∧ ((-100 : Int32) < -(nI n) ↔ n < 100) ∧ ((-9 : Int32) ≤ -(nI n) ↔ n < 10) := by decide +kernel
theorem dg_t : ∀ n, n < 100 → (Int32.toInt8 (nI (48 + n % 10))).toInt32 = nI (48 + n % 10) ∧ (Int32.toInt8 (nI (48 + n / 10))).toInt32 = nI (48 + n / 10) := by decide +kernel
theorem nI_prd (hp : 1 ≤ p) (h31 : p < 2 ^ 31) : nI p + (-1 : Int32) = nI (p - 1) := by
  have := pk_sub (a := p) (b := 1) hp
  rw [show (-1 : Int32) = -(nI 1) by decide, ← Int32.sub_eq_add_neg]
  exact this
theorem k_getChars (dg : JDg D) (hn : n < 1000) (hr : r ≠ 0) (hk : sbt (jkd h r) 65 = true) (ne8 : r ≠ jcs D 348) (ne9 : r ≠ jcs D 349) (hp : sz3 n ≤ p) (hl : p ≤ jln h r) (hl2 : jln h r ≤ 100000) (hd : 1 ≤ d) :
    cJ17_getChars D d (nI n) (nI p) r h (pI D h (fun _ h' => AfR h h' r (p - sz3 n) (dg3 n)) no) := by
  obtain ⟨d, rfl, he⟩ := dsucc hd
  refine JW.inv fun hI => t_J17_getChars ⟨fun _ => ⟨fun z => absurd rfl z, fun _ => ?_⟩, fun z => absurd (nI_pos' (by omega)) z⟩
  obtain ⟨⟨l8, c8⟩, ⟨l9, c9⟩⟩ := dg.at hI
  obtain ⟨a1, a2, a3, a4, a5⟩ := dg3_ar n hn
  by_cases z1 : n < 100
  · refine ⟨1, fun _ => ⟨dg.1.1, ?_⟩, fun z => absurd (a4.mpr z1) z⟩
    have sz1 : 1 ≤ sz3 n := by unfold sz3; split <;> (try split) <;> omega
    rw [a3, ixn_nI (by omega), c8 n z1, (dg_t n z1).1, nI_prd (by omega) (by omega), ixn_nI (by omega), l8]
    refine ⟨jin_nI z1 (by decide), Or.inr hk, hr, jin_nI (by omega) (by omega), ?_⟩
    rintro h7 rfl
    by_cases z2 : n < 10
    · have e3 : sz3 n = 1 := by unfold sz3; rw [if_pos z2]
      have ed : dg3 n = [nI (48 + n % 10)] := by unfold dg3; rw [if_pos z2, Nat.mod_eq_of_lt z2]
      refine ⟨fun _ => ⟨fun _ => ?_, fun z => absurd rfl z⟩, fun z => absurd (a5.mpr z2) z⟩
      refine (show pI D h (fun _ h' => AfR h h' r (p - sz3 n) (dg3 n)) no (.inl (some (vI _))) _ from endI fun _ _ => ?_)
      rw [e3, ed]
      refine ⟨fun _ => ⟨rfl, rfl⟩, fun _ _ => ⟨rfl, rfl, rfl⟩, fun _ _ => ⟨rfl, rfl⟩, fun q i hz => ?_, fun k c hk => ?_, rfl, rfl⟩
      · rw [jai_wai, if_neg fun z => hz ⟨z.1, by omega, by show i < p - 1 + 1; omega⟩]
      · cases k with
        | zero => cases hk; rw [jai_wai, if_pos ⟨rfl, rfl⟩]
        | succ k => simp at hk
    · have e3 : sz3 n = 2 := by unfold sz3; rw [if_neg z2, if_pos z1]
      have ed : dg3 n = [nI (48 + n / 10), nI (48 + n % 10)] := by unfold dg3; rw [if_neg z2, if_pos z1]
      refine ⟨fun z => absurd (a5.mp z) z2, fun _ => ⟨dg.2.1, ?_⟩⟩
      rw [nI_prd (by omega) (by omega), ixn_nI (by omega), jai_wai, if_neg (fun z => ne9 z.1.symm), c9 n z1, (dg_t n z1).2]
      refine ⟨by rw [jln_wai, l9]; exact jin_nI z1 (by decide), Or.inr hk, by rw [jln_wai]; exact jin_nI (by omega) (by omega), ?_⟩
      rintro h14 rfl
      refine ⟨fun _ => ?_, fun z => absurd rfl z⟩
      refine (show pI D h (fun _ h' => AfR h h' r (p - sz3 n) (dg3 n)) no (.inl (some (vI _))) _ from endI fun _ _ => ?_)
      rw [e3, ed]
      refine ⟨fun _ => ⟨rfl, rfl⟩, fun _ _ => ⟨rfl, rfl, rfl⟩, fun _ _ => ⟨rfl, rfl⟩, fun q i hz => ?_, fun k c hk => ?_, rfl, rfl⟩
      · rw [jai_wai, if_neg fun z => hz ⟨z.1, by omega, by show i < p - 2 + 2; omega⟩, jai_wai, if_neg fun z => hz ⟨z.1, by omega, by show i < p - 2 + 2; omega⟩]
      · match k, hk with
        | 0, hk => cases hk; rw [jai_wai, if_pos ⟨rfl, by omega⟩]
        | 1, hk => cases hk; rw [jai_wai, if_neg (by omega), jai_wai, if_pos ⟨rfl, by omega⟩]
        | k + 2, hk => simp at hk
  · have e3 : sz3 n = 3 := by unfold sz3; rw [if_neg (by omega), if_neg z1]
    have ed : dg3 n = [nI (48 + n / 100), nI (48 + n % 100 / 10), nI (48 + n % 100 % 10)] := by unfold dg3; rw [if_neg (by omega), if_neg z1]
    have m1 : n % 100 < 100 := Nat.mod_lt _ (by decide)
    have m2 : n / 100 < 10 := by omega
    refine ⟨2, fun z => absurd (a4.mp z) z1, fun _ => ⟨dg.1.1, ?_⟩⟩
    rw [a2, ixn_nI (by omega), c8 _ m1, (dg_t _ m1).1, nI_prd (by omega) (by omega), ixn_nI (by omega), l8]
    refine ⟨jin_nI m1 (by decide), Or.inr hk, hr, jin_nI (by omega) (by omega), ?_⟩
    rintro h21 rfl
    refine ⟨dg.2.1, ?_⟩
    rw [nI_prd (by omega) (by omega), ixn_nI (by omega), jai_wai, if_neg (fun z => ne9 z.1.symm), c9 _ m1, (dg_t _ m1).2, a1]
    refine ⟨by rw [jln_wai, l9]; exact jin_nI m1 (by decide), Or.inr hk, by rw [jln_wai]; exact jin_nI (by omega) (by omega), ?_⟩
    rintro h27 rfl
    obtain ⟨b1, b2, b3, b4, b5⟩ := dg3_ar (n / 100) (by omega)
    refine ⟨fun _ => ⟨dg.1.1, ?_⟩, fun z => absurd (b4.mpr (by omega)) z⟩
    rw [b3, ixn_nI (by omega), nI_prd (by omega) (by omega), ixn_nI (by omega), jai_wai, if_neg (fun z => ne8 z.1.symm), jai_wai, if_neg (fun z => ne8 z.1.symm), c8 _ (by omega), (dg_t _ (by omega)).1]
    refine ⟨by rw [jln_wai, jln_wai, l8]; exact jin_nI (by omega) (by decide), Or.inr hk, hr, by rw [jln_wai, jln_wai]; exact jin_nI (by omega) (by omega), ?_⟩
    rintro h7 rfl
    refine ⟨fun _ => ⟨fun _ => ?_, fun z => absurd rfl z⟩, fun z => absurd (b5.mpr m2) z⟩
    refine (show pI D h (fun _ h' => AfR h h' r (p - sz3 n) (dg3 n)) no (.inl (some (vI _))) _ from endI fun _ _ => ?_)
    rw [e3, ed]
    refine ⟨fun _ => ⟨rfl, rfl⟩, fun _ _ => ⟨rfl, rfl, rfl⟩, fun _ _ => ⟨rfl, rfl⟩, fun q i hz => ?_, fun k c hk => ?_, rfl, rfl⟩
    · rw [jai_wai, if_neg fun z => hz ⟨z.1, by omega, by show i < p - 3 + 3; omega⟩, jai_wai, if_neg fun z => hz ⟨z.1, by omega, by show i < p - 3 + 3; omega⟩, jai_wai, if_neg fun z => hz ⟨z.1, by omega, by show i < p - 3 + 3; omega⟩]
    · match k, hk with
      | 0, hk => cases hk; rw [jai_wai, if_pos ⟨rfl, by omega⟩, Nat.mod_eq_of_lt m2]
      | 1, hk => cases hk; rw [jai_wai, if_neg (by omega), jai_wai, if_pos ⟨rfl, by omega⟩]
      | 2, hk => cases hk; rw [jai_wai, if_neg (by omega), jai_wai, if_neg (by omega), jai_wai, if_pos ⟨rfl, by omega⟩]
      | k + 3, hk => simp at hk
theorem k_sbApp2 (dg : JDg D) (hb : SbR h b s) (hn : n < 1000) (hm : s.length + sz3 n ≤ 2 * jln h (jfr h 71 b) + 2) (hm2 : s.length ≤ 40000) (hd : 7 ≤ d) :
    cJ13_append_2 D d b (nI n) h (pR D h 11 (fun v h' => v = b ∧ SbS h h' b (s ++ dg3 n) ∧ (jln h' (jfr h' 71 b) ≤ jln h (jfr h 71 b) ∨ jln h' (jfr h' 71 b) ≤ 2 * (s.length + sz3 n))) no) := by
  obtain ⟨d, rfl, he⟩ := dsucc (show 1 ≤ d by omega)
  have z3 : sz3 n ≤ 3 := by unfold sz3; split <;> (try split) <;> omega
  have key : cJ12_append_2 D d b (nI n) h (pR D h 62 (fun v h' => v = b ∧ SbS h h' b (s ++ dg3 n) ∧ (jln h' (jfr h' 71 b) ≤ jln h (jfr h 71 b) ∨ jln h' (jfr h' 71 b) ≤ 2 * (s.length + sz3 n))) no) := by
    obtain ⟨d, rfl, he⟩ := dsucc (show 1 ≤ d by omega)
    refine t_J12_append_2 ⟨hb.2.1, useI0 (k_strSize hn (by omega)) ?_⟩
    rintro v h1 hI1 _ ⟨rfl, he1⟩
    have he1 := he1.symm
    subst he1
    rw [hb.2.2.2.1, nI_add]
    refine JW.up (n := 4) (fun dd => useV0 (k_ensure (d := dd) hb rfl (by omega) (by omega) hm) ?_) (by omega)
    rintro h2 hI2 _ ⟨s2, c1, c2⟩
    have b2 := s2.1
    refine JW.up (n := 1) (fun dd => useI0 (k_sbLatin (d := dd) b2) ?_) (by omega)
    rintro v h3 hI3 _ ⟨rfl, he3⟩
    have he3 := he3.symm
    subst he3
    refine ⟨fun z => absurd z (by decide), fun _ => ?_⟩
    have kk := b2.2.2.2.2.2.1
    have cc := hI2.2.2.2.2.2.2.2
    refine useI0 (k_getChars dg hn b2.2.2.2.2.1 (by rw [kk]; rfl) ?_ ?_ (Nat.le_add_left _ _) c1 b2.2.2.2.2.2.2.2.2.1 (by omega)) ?_
    · intro z
      have hle := (cc.1 348 (by decide)).1
      rw [← z] at hle
      have := hI2.2.1 _ (show wrt (jkd h2 (jfr h2 71 b)) = true by rw [kk]; rfl)
      omega
    · intro z
      have hle := (cc.1 349 (by decide)).1
      rw [← z] at hle
      have := hI2.2.1 _ (show wrt (jkd h2 (jfr h2 71 b)) = true by rw [kk]; rfl)
      omega
    · rintro v h4 hI4 _ f
      rw [Nat.add_sub_cancel] at f
      refine ⟨b2.2.1, ?_⟩
      rintro h5 rfl
      have fl := b2.fill (by rw [dg3_len]; exact c1) (fun c hc => dg3_by n hn c hc) f
      rw [dg3_len] at fl
      refine endR fun _ _ _ => ⟨rfl, s2.tr fl, ?_⟩
      have e1 : jfr (wfi h4 74 b (nI (s.length + sz3 n))) 71 b = jfr h2 71 b := (f.2.1 71 b).2.2
      have e2 : jln (wfi h4 74 b (nI (s.length + sz3 n))) (jfr h2 71 b) = jln h2 (jfr h2 71 b) := (f.1 _).2
      rw [e1, e2]
      exact c2
  refine t_J13_append_2 ⟨hb.2.1, useR0 key ?_⟩
  rintro v h' _ _ ⟨rfl, hp⟩
  exact endR fun _ _ _ => ⟨rfl, hp⟩
end
