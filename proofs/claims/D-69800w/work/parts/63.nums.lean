/-! numbers: comparisons of longs, Math, digits -/
theorem cmp3 (x y : Int64) : (y < x ∧ ¬ x = y ∧ ¬ x < y ∧ lg_cmp x y = 1) ∨ (¬ y < x ∧ x = y ∧ ¬ x < y ∧ lg_cmp x y = 0) ∨ (¬ y < x ∧ ¬ x = y ∧ x < y ∧ lg_cmp x y = -1) := by
  unfold lg_cmp
  by_cases h1 : y < x
  · refine Or.inl ⟨h1, fun e => ?_, fun z => Int64.lt_irrefl (Int64.lt_trans h1 z), if_pos h1⟩
    subst e; exact Int64.lt_irrefl h1
  · by_cases h2 : x = y
    · subst h2
      exact Or.inr (Or.inl ⟨h1, rfl, h1, by rw [if_neg h1, if_pos rfl]⟩)
    · refine Or.inr (Or.inr ⟨h1, h2, ?_, by rw [if_neg h1, if_neg h2]⟩)
      rcases Int64.lt_or_eq_of_le (Int64.not_lt.mp h1) with z | z
      · exact z
      · exact absurd z h2
theorem cmp_lt (x y : Int64) : lg_cmp x y < 0 ↔ x < y := by
  rcases cmp3 x y with ⟨h1, h2, h3, h4⟩ | ⟨h1, h2, h3, h4⟩ | ⟨h1, h2, h3, h4⟩ <;> rw [h4] <;> simp only [h3, iff_false, iff_true] <;> decide
theorem cmp_ge (x y : Int64) : 0 ≤ lg_cmp x y ↔ ¬ x < y := by
  rcases cmp3 x y with ⟨h1, h2, h3, h4⟩ | ⟨h1, h2, h3, h4⟩ | ⟨h1, h2, h3, h4⟩ <;> rw [h4] <;> simp only [h3, not_false_eq_true, not_true_eq_false, iff_false, iff_true] <;> decide
theorem cmp_gt (x y : Int64) : 0 < lg_cmp x y ↔ y < x := by
  rcases cmp3 x y with ⟨h1, h2, h3, h4⟩ | ⟨h1, h2, h3, h4⟩ | ⟨h1, h2, h3, h4⟩ <;> rw [h4] <;> simp only [h1, iff_false, iff_true] <;> decide
theorem cmp_le (x y : Int64) : lg_cmp x y ≤ 0 ↔ ¬ y < x := by
  rcases cmp3 x y with ⟨h1, h2, h3, h4⟩ | ⟨h1, h2, h3, h4⟩ | ⟨h1, h2, h3, h4⟩ <;> rw [h4] <;> simp only [h1, not_false_eq_true, not_true_eq_false, iff_false, iff_true] <;> decide
theorem cmp_eq (x y : Int64) : lg_cmp x y = 0 ↔ x = y := by
  rcases cmp3 x y with ⟨h1, h2, h3, h4⟩ | ⟨h1, h2, h3, h4⟩ | ⟨h1, h2, h3, h4⟩ <;> rw [h4] <;> simp only [h2, iff_false, iff_true] <;> decide
theorem neg_ti {v : Int64} (h : -(2 ^ 63) < v.toInt) : (-v).toInt = - v.toInt := by
  rw [Int64.toInt_neg]
  have h2 := v.toInt_lt
  simp only [Int.bmod_def]
  split <;> omega
theorem k_abs {D : JD} {d : Nat} {h : JH} {x : Int64} : cJ15_abs D (d + 1) x h (pL D h (fun v h' => v = (if x < 0 then -x else x) ∧ h' = h) no) := by
  refine t_J15_abs ⟨fun z => endL fun _ _ => ⟨?_, rfl⟩, fun z => endL fun _ _ => ⟨?_, rfl⟩⟩
  · rw [cmp_ge] at z; rw [if_neg z]
  · rw [cmp_ge, Classical.not_not] at z; rw [if_pos z]
theorem k_minL {D : JD} {d : Nat} {h : JH} {x y : Int64} : cJ15_min_2 D (d + 1) x y h (pL D h (fun v h' => v = (if y < x then y else x) ∧ h' = h) no) := by
  refine t_J15_min_2 ⟨fun z => endL fun _ _ => ⟨?_, rfl⟩, fun z => endL fun _ _ => ⟨?_, rfl⟩⟩
  · rw [cmp_gt] at z; rw [if_pos z]
  · rw [cmp_gt] at z; rw [if_neg z]
theorem k_maxL {D : JD} {d : Nat} {h : JH} {x y : Int64} : cJ15_max_2 D (d + 1) x y h (pL D h (fun v h' => v = (if x < y then y else x) ∧ h' = h) no) := by
  refine t_J15_max_2 ⟨fun z => endL fun _ _ => ⟨?_, rfl⟩, fun z => endL fun _ _ => ⟨?_, rfl⟩⟩
  · rw [cmp_lt] at z; rw [if_pos z]
  · rw [cmp_lt] at z; rw [if_neg z]
theorem k_minI {D : JD} {d : Nat} {h : JH} {x y : Int32} : cJ15_min D (d + 1) x y h (pI D h (fun v h' => v = (if y < x then y else x) ∧ h' = h) no) :=
  t_J15_min ⟨fun z => endI fun _ _ => ⟨(if_pos z).symm, rfl⟩, fun z => endI fun _ _ => ⟨(if_neg z).symm, rfl⟩⟩
theorem k_maxI {D : JD} {d : Nat} {h : JH} {x y : Int32} : cJ15_max D (d + 1) x y h (pI D h (fun v h' => v = (if x < y then y else x) ∧ h' = h) no) :=
  t_J15_max ⟨fun z => endI fun _ _ => ⟨(if_pos z).symm, rfl⟩, fun z => endI fun _ _ => ⟨(if_neg z).symm, rfl⟩⟩
/-- the digits of n from the place k on, the highest first -/
def dgs (n : Nat) : Nat → List Int32
  | 0 => [nI (48 + n % 10)]
  | k + 1 => nI (48 + n / 10 ^ (k + 1) % 10) :: dgs n k
/-- the highest place of n -/
def dTop (n : Nat) : Nat → Nat → Nat
  | 0, k => k
  | f + 1, k => if 10 ^ (k + 1) ≤ n then dTop n f (k + 1) else k
/-- a number as it is written -/
def sDigits (v : Int64) : List Int32 := if v < 0 then 45 :: dgs (-v).toInt.toNat (dTop (-v).toInt.toNat 17 0) else dgs v.toInt.toNat (dTop v.toInt.toNat 17 0)
theorem p10 : ∀ k, k ≤ 18 → (0 < 10 ^ k ∧ 10 ^ k < 2 ^ 63) := by decide
theorem k_digits_l {D : JD} {d : Nat} {o n : Nat} {Q : JO → JH → Prop} (hn : n < 10 ^ 17) : ∀ (k : Nat) (h : JH) (bs : List Int32), OutR h o bs → bs.length + k + 1 < 500000 → k ≤ 17 → (∀ h', OutS h h' o (bs ++ dgs n k) → Q (.inl none) h') → L_X2_digits_50 D (d + 1) Q (k + 2) o (lN n) (lN (10 ^ k)) h := by
  intro k
  induction k with
  | zero =>
    intro h bs ho hb hk hQ
    have e1 : lN n / lN (10 ^ 0) = lN n := by rw [pk_lDiv (by omega) (by decide) (by decide)]; simp
    refine ⟨fun z => absurd z (by rw [cmp_le]; exact fun w => w (by decide)), fun _ => ⟨by decide, ho.2.1, ?_⟩⟩
    rw [e1, show (10 : Int64) = lN 10 from rfl, pk_lRem (by omega) (by decide) (by decide), lN_i, show (48 : Int32) = nI 48 from rfl, nI_add]
    refine useV0 (k_put ho (by omega)) fun h1 _ _ ⟨s1, _⟩ => ?_
    refine ⟨fun _ => hQ h1 ?_, fun z => absurd (by decide) z⟩
    have : (nI (n % 10 + 48)).toInt8.toInt32 = nI (48 + n % 10) := by
      have hlt : n % 10 < 10 := Nat.mod_lt _ (by omega)
      have key : ∀ x, x < 10 → (nI (x + 48)).toInt8.toInt32 = nI (48 + x) := by decide
      exact key _ hlt
    rw [this] at s1
    exact s1
  | succ k ih =>
    intro h bs ho hb hk hQ
    have hp := p10 (k + 1) (by omega)
    have e0 : ¬ lN (10 ^ (k + 1)) = 0 := fun z => by
      have := (pk_lEQ (b := 0) hp.2 (by decide)).mp z; omega
    refine ⟨fun z => absurd z (by rw [cmp_le]; exact fun w => w ((pk_lLT (a := 0) (by decide) hp.2).mpr hp.1)), fun _ => ⟨e0, ho.2.1, ?_⟩⟩
    rw [pk_lDiv (by omega) hp.1 hp.2, show (10 : Int64) = lN 10 from rfl, pk_lRem (Nat.lt_of_le_of_lt (Nat.div_le_self _ _) (by omega)) (by decide) (by decide), lN_i, show (48 : Int32) = nI 48 from rfl, nI_add]
    refine useV0 (k_put ho (by omega)) fun h1 _ _ ⟨s1, _⟩ => ?_
    have : (nI (n / 10 ^ (k + 1) % 10 + 48)).toInt8.toInt32 = nI (48 + n / 10 ^ (k + 1) % 10) := by
      have hlt : n / 10 ^ (k + 1) % 10 < 10 := Nat.mod_lt _ (by omega)
      have key : ∀ x, x < 10 → (nI (x + 48)).toInt8.toInt32 = nI (48 + x) := by decide
      exact key _ hlt
    rw [this] at s1
    have e2 : lN (10 ^ (k + 1)) / lN 10 = lN (10 ^ k) := by
      rw [pk_lDiv hp.2 (by decide) (by decide), Nat.pow_succ, Nat.mul_div_cancel _ (by decide)]
    rw [e2]
    refine ih h1 _ s1.1 (by simp; omega) (by omega) fun h2 s2 => hQ h2 ?_
    have := s1.tr s2
    simpa [dgs, List.append_assoc] using this
theorem k_digits_p {D : JD} {d : Nat} {o n : Nat} {h : JH} {Q : JO → JH → Prop} (hn : n < 10 ^ 16) : ∀ (f k : Nat), f + k = 17 → (∃ m, L_X2_digits_50 D d Q m o (lN n) (lN (10 ^ (dTop n f k))) h) → L_X2_digits_28 D d Q (f + 1) o (lN n) (lN (10 ^ k)) h := by
  intro f
  induction f with
  | zero =>
    intro k hk hQ
    have hp := p10 k (by omega)
    have hd : n / 10 < 10 ^ 16 := Nat.lt_of_le_of_lt (Nat.div_le_self _ _) hn
    rw [show k = 17 by omega] at hp hQ ⊢
    refine ⟨fun _ => hQ, fun z => absurd ?_ z⟩
    rw [cmp_gt, show (10 : Int64) = lN 10 from rfl, pk_lDiv (by omega) (by decide) (by decide)]
    exact (pk_lLT (by omega) (by decide)).mpr (by omega)
  | succ f ih =>
    intro k hk hQ
    have hp := p10 k (by omega)
    refine ⟨fun z => ?_, fun z => ?_⟩
    · rw [cmp_gt, show (10 : Int64) = lN 10 from rfl, pk_lDiv (by omega) (by decide) (by decide), pk_lLT (by omega) hp.2] at z
      have : ¬ 10 ^ (k + 1) ≤ n := by rw [Nat.pow_succ]; omega
      unfold dTop at hQ
      rwa [if_neg this] at hQ
    · rw [cmp_gt, show (10 : Int64) = lN 10 from rfl, pk_lDiv (by omega) (by decide) (by decide), pk_lLT (by omega) hp.2] at z
      have : 10 ^ (k + 1) ≤ n := by rw [Nat.pow_succ]; omega
      unfold dTop at hQ
      rw [if_pos this] at hQ
      rw [show (10 : Int64) = lN 10 from rfl, lN_mul, ← Nat.pow_succ]
      exact ih (k + 1) (by omega) hQ
theorem dTop_le (n : Nat) : ∀ f k, dTop n f k ≤ f + k := by
  intro f
  induction f with
  | zero => intro k; simp [dTop]
  | succ f ih =>
    intro k
    unfold dTop
    split
    · have := ih (k + 1); omega
    · omega
theorem k_digits {D : JD} {d : Nat} {h : JH} {o : Nat} {v : Int64} {bs : List Int32} (ho : OutR h o bs) (hn : bs.length + 20 < 500000) (hv : -(10 ^ 16) < v.toInt ∧ v.toInt < 10 ^ 16) :
    cX2_digits D (d + 2) o v h (pV D h (fun h' => OutS h h' o (bs ++ sDigits v)) no) := by
  have main : ∀ (Q : JO → JH → Prop) (n : Nat) (h1 : JH) (bs1 : List Int32), n < 10 ^ 16 → OutR h1 o bs1 → bs1.length + 19 < 500000 → (∀ h', OutS h1 h' o (bs1 ++ dgs n (dTop n 17 0)) → Q (.inl none) h') → W_X2_digits_24 D (d + 1) Q o (lN n) h1 := by
    intro Q n h1 bs1 hn' ho1 hb1 hQ
    have hle := dTop_le n 17 0
    exact ⟨18, k_digits_p hn' 17 0 rfl ⟨_, k_digits_l (by omega) (dTop n 17 0) h1 bs1 ho1 (by omega) (by omega) hQ⟩⟩
  refine t_X2_digits ⟨fun z => ?_, fun z => ?_⟩
  · rw [cmp_ge] at z
    have z' : ¬ v < 0 := z
    refine ⟨fun _ => ?_, fun z2 => absurd (by rw [cmp_ge]; exact z) z2⟩
    obtain ⟨n, hn1, rfl⟩ := pk_lOf z'
    have e : (lN n).toInt = n := pk_lT hn1
    rw [e] at hv
    refine main _ n h bs (by omega) ho (by omega) fun h' s => endV fun _ _ => ?_
    simp only [sDigits, if_neg z', e, Int.toNat_natCast]
    exact s
  · rw [cmp_ge, Classical.not_not] at z
    refine ⟨ho.2.1, useV0 (k_put ho (by omega)) fun h1 _ _ ⟨s1, _⟩ => ?_⟩
    refine ⟨fun z2 => absurd z (by rw [cmp_ge] at z2; exact z2), fun _ => ?_⟩
    have hneg : ¬ (-v) < 0 := by
      rw [Int64.lt_iff_toInt_lt] at z ⊢
      have h0 : (0 : Int64).toInt = 0 := rfl
      rw [h0] at z ⊢
      rw [neg_ti (by omega)]
      omega
    have hti : (-v).toInt = - v.toInt := neg_ti (by omega)
    obtain ⟨n, hn1, hn2⟩ := pk_lOf hneg
    have e : (lN n).toInt = n := pk_lT hn1
    rw [hn2]
    refine main _ n h1 _ (by rw [hn2, e] at hti; omega) s1.1 (by simp; omega) fun h' s => endV fun _ _ => ?_
    have := s1.tr s
    simp only [sDigits, if_pos z, hn2, e, Int.toNat_natCast]
    simpa [List.append_assoc] using this
