/-! answers: strings of the component, closing and words of the twin -/
theorem cByte_n {n k : Nat} (hn : n < 2 ^ 31) (hk : k < 4) : cByte n k = (nI (n / 2 ^ (24 - 8 * k))).toInt8.toInt32 := by
  unfold cByte
  rw [pk_shrN hn ((24 - 8 * nI k) &&& 31) (24 - 8 * k) (by rcases (show k = 0 ∨ k = 1 ∨ k = 2 ∨ k = 3 by omega) with rfl | rfl | rfl | rfl <;> decide)]
theorem k_tclose {D : JD} {d : Nat} {h : JH} {m g : Nat} {bs : List Int32} (ho : TwO h m bs) (hg : jfi h 237 m = nI g) (hb : g + 4 ≤ bs.length) (hn : bs.length < 500000) :
    cX8_close D (d + 1) m h (pV D h (fun h' => TwS h h' m (bClose bs g)) no) := by
  have hsz : jfi h 227 m = nI bs.length := ho.2.2.2.2.1
  have step : ∀ (Q : JO → JH → Prop) (n k : Nat) (h1 : JH) (bs1 : List Int32), TwO h1 m bs1 → jfi h1 237 m = nI g → bs1.length = bs.length → k < 4 → (∀ h2, TwS h1 h2 m (bs1.set (g + k) (cByte (bs.length - g) k)) → jfi h2 237 m = nI g → L_X8_close_12 D d Q n m (nI (bs.length - g)) (nI (k + 1)) h2) → L_X8_close_12 D d Q (n + 1) m (nI (bs.length - g)) (nI k) h1 := by
    intro Q n k h1 bs1 h1o h1g h1l hk hc
    have hin : jin (nI (g + k)) (jln h1 (jfr h1 226 m)) := jin_nI (by have := h1o.2.2.2.2.2.2.1; omega) (by have := h1o.2.2.2.2.2.2.2.1; omega)
    refine ⟨fun z => absurd z (nI_ge (b := 4) hk (by omega)), fun _ => ⟨h1o.2.1, h1o.2.2.1, by rw [h1g, nI_add]; exact hin, ?_⟩⟩
    rintro h2 rfl
    rw [nI_1, h1g, nI_add, ixn_nI (by omega)]
    rw [pk_ushrN (by omega) (24 - 8 * nI k) (24 - 8 * k) (by rcases (show k = 0 ∨ k = 1 ∨ k = 2 ∨ k = 3 by omega) with rfl | rfl | rfl | rfl <;> decide)]
    have hx := jby_b (nI ((bs.length - g) / 2 ^ (24 - 8 * k)))
    have e : (Int32.toInt8 ((Int32.toInt8 (nI ((bs.length - g) / 2 ^ (24 - 8 * k)))).toInt32)).toInt32 = cByte (bs.length - g) k := by
      rw [cByte_n (by omega) hk]; exact hx
    rw [e]
    exact hc _ (TwS.setB h1o (by omega) (by rw [cByte_n (by omega) hk]; exact hx)) (by rw [jfi_wai]; exact h1g)
  refine t_X8_close ⟨ho.2.1, 5, ?_⟩
  rw [hsz, hg, pk_sub (by omega)]
  refine step _ 4 0 h bs ho hg rfl (by omega) fun h1 s1 g1 => step _ 3 1 h1 _ s1.1 g1 (by simp) (by omega) fun h2 s2 g2 => step _ 2 2 h2 _ s2.1 g2 (by simp) (by omega) fun h3 s3 g3 => step _ 1 3 h3 _ s3.1 g3 (by simp) (by omega) fun h4 s4 g4 => ?_
  exact ⟨fun _ => endV fun _ _ => ((s1.tr s2).tr s3).tr s4, fun z => absurd (by decide) z⟩
theorem k_empty {D : JD} {d : Nat} {h : JH} {m : Nat} {x : Int32} {bs : List Int32} (ho : TwO h m bs) (hn : bs.length + 5 < 500000) :
    cX8_empty D (d + 5) m x h (pV D h (fun h' => TwS h h' m (bClose (bs ++ [x.toInt8.toInt32] ++ [0, 0, 0, 0]) (bs.length + 1))) no) :=
  t_X8_empty ⟨ho.2.1, useV0 (k_begin ho hn) fun h1 _ _ ⟨s1, g1⟩ => useV0 (k_tclose s1.1 g1 (by simp) (by simp; omega)) fun h2 _ _ s2 => endV fun _ _ => s1.tr s2⟩
/-- a string behind the bytes, and a zero -/
theorem k_string {D : JD} {d : Nat} {h : JH} {o r : Nat} {bs s : List Int32} (ho : OutR h o bs) (hs : StR h r s) (hn : bs.length + s.length + 1 < 500000) (hI : JInv D h) :
    cX2_string D (d + 5) o r h (pV D h (fun h' => OutS h h' o (bs ++ s ++ [0])) no) := by
  have hne : ∀ h1 bs1, OutS h h1 o bs1 → StR h1 r s := fun h1 bs1 s1 => hs.fr hI s1.2.1 (by
      rintro (z | z)
      · rw [z] at hs; have := ho.1; have := hs.2.1; omega
      · have := ho.2.2.2.1; rw [← z] at this; have := hs.2.1; omega) (by
      rintro (z | z)
      · have := ho.1; rw [← z] at this; have := hs.2.2.2.2.1; omega
      · have := ho.2.2.2.1; rw [← z] at this; have := hs.2.2.2.2.1; omega)
  have loop : ∀ (Q : JO → JH → Prop) (k i : Nat) (h1 : JH), k = s.length - i → i ≤ s.length → OutS h h1 o (bs ++ s.take i) → (∀ h2, OutS h h2 o (bs ++ s ++ [0]) → Q (.inl none) h2) → L_X2_string_2 D (d + 4) Q (k + 1) o r (nI i) h1 := by
    intro Q k
    induction k with
    | zero =>
      intro i h1 hk hi s1 hQ
      have hs1 := hne h1 _ s1
      refine ⟨hs.1, useI0 (k_length hs1) ?_⟩
      rintro v h2 _ _ ⟨rfl, rfl⟩
      refine ⟨fun _ => ⟨ho.2.1, useV0 (k_put s1.1 (by simp; omega)) fun h3 _ _ ⟨s2, _⟩ => hQ h3 ?_⟩, fun z => absurd (nI_le (by omega) (by omega)) z⟩
      have := s1.tr s2
      rwa [List.take_of_length_le (by omega)] at this
    | succ k ih =>
      intro i h1 hk hi s1 hQ
      have hs1 := hne h1 _ s1
      have hi' : i < s.length := by omega
      refine ⟨hs.1, useI0 (k_length hs1) ?_⟩
      rintro v h2 _ _ ⟨rfl, rfl⟩
      refine ⟨fun z => absurd z (nI_ge hi' (by omega)), fun _ => useI0 (k_charAt hs1 rfl hi') ?_⟩
      rintro v h3 _ _ ⟨rfl, rfl⟩
      refine ⟨ho.2.1, useV0 (k_put s1.1 (by simp; omega)) fun h4 _ _ ⟨s2, _⟩ => ?_⟩
      rw [nI_1]
      refine ih (i + 1) h4 (by omega) (by omega) ?_ hQ
      have := s1.tr s2
      rw [b255, show (s[i]).toInt8.toInt32 = s[i] from (hs.2.2.2.2.2.2.2.1 i s[i] (List.getElem?_eq_getElem hi')).2, List.append_assoc, ← List.take_succ_eq_append_getElem hi'] at this
      exact this
  exact t_X2_string ⟨s.length + 1, loop _ s.length 0 h (by omega) (by omega) (by simpa using OutS.rf ho) fun h2 s2 => endV fun _ _ => s2⟩
theorem TwS.str {D : JD} {h h1 : JH} {m r : Nat} {bs bs1 s : List Int32} (hI : JInv D h) (ho : TwO h m bs) (hs : StR h r s) (s1 : TwS h h1 m bs1) : StR h1 r s :=
  hs.fr hI s1.2.1 (by
      rintro (z | z)
      · rw [z] at hs; have := ho.1; have := hs.2.1; omega
      · have := ho.2.2.2.1; rw [← z] at this; have := hs.2.1; omega) (by
      rintro (z | z)
      · have := ho.1; rw [← z] at this; have := hs.2.2.2.2.1; omega
      · have := ho.2.2.2.1; rw [← z] at this; have := hs.2.2.2.2.1; omega)
theorem k_text {D : JD} {d : Nat} {h : JH} {m r : Nat} {bs s : List Int32} (ho : TwO h m bs) (hs : StR h r s) (hn : bs.length + s.length < 500000) :
    cX8_text D (d + 5) m r h (pV D h (fun h' => TwS h h' m (bs ++ s) ∧ jfi h' 237 m = jfi h 237 m) no) := by
  refine JW.inv fun hI => ?_
  have loop : ∀ (Q : JO → JH → Prop) (k i : Nat) (h1 : JH), k = s.length - i → i ≤ s.length → TwS h h1 m (bs ++ s.take i) → jfi h1 237 m = jfi h 237 m → (∀ h2, TwS h h2 m (bs ++ s) → jfi h2 237 m = jfi h 237 m → Q (.inl none) h2) → L_X8_text_2 D (d + 4) Q (k + 1) m r (nI i) h1 := by
    intro Q k
    induction k with
    | zero =>
      intro i h1 hk hi s1 e1 hQ
      have hs1 := TwS.str hI ho hs s1
      refine ⟨hs.1, useI0 (k_length hs1) ?_⟩
      rintro v h2 _ _ ⟨rfl, rfl⟩
      exact ⟨fun _ => hQ h2 (by rwa [List.take_of_length_le (by omega)] at s1) e1, fun z => absurd (nI_le (by omega) (by omega)) z⟩
    | succ k ih =>
      intro i h1 hk hi s1 e1 hQ
      have hs1 := TwS.str hI ho hs s1
      have hi' : i < s.length := by omega
      refine ⟨hs.1, useI0 (k_length hs1) ?_⟩
      rintro v h2 _ _ ⟨rfl, rfl⟩
      refine ⟨fun z => absurd z (nI_ge hi' (by omega)), fun _ => useI0 (k_charAt hs1 rfl hi') ?_⟩
      rintro v h3 _ _ ⟨rfl, rfl⟩
      refine ⟨ho.2.1, useV0 (k_say s1.1 (by simp; omega)) fun h4 _ _ ⟨s2, e2⟩ => ?_⟩
      rw [nI_1]
      refine ih (i + 1) h4 (by omega) (by omega) ?_ (e2.trans e1) hQ
      have := s1.tr s2
      rw [b255, show (s[i]).toInt8.toInt32 = s[i] from (hs.2.2.2.2.2.2.2.1 i s[i] (List.getElem?_eq_getElem hi')).2, List.append_assoc, ← List.take_succ_eq_append_getElem hi'] at this
      exact this
  exact t_X8_text ⟨s.length + 1, loop _ s.length 0 h (by omega) (by omega) (by simpa using TwS.rf ho) rfl fun h2 s2 e2 => endV fun _ _ => ⟨s2, e2⟩⟩
theorem k_words {D : JD} {d : Nat} {h : JH} {m r : Nat} {bs s : List Int32} (ho : TwO h m bs) (hs : StR h r s) (hn : bs.length + s.length + 1 < 500000) :
    cX8_words D (d + 6) m r h (pV D h (fun h' => TwS h h' m (bs ++ s ++ [0]) ∧ jfi h' 237 m = jfi h 237 m) no) :=
  t_X8_words ⟨ho.2.1, useV0 (k_text ho hs (by omega)) fun h1 _ _ ⟨s1, e1⟩ => useV0 (k_say s1.1 (by simp; omega)) fun h2 _ _ ⟨s2, e2⟩ => endV fun _ _ => ⟨s1.tr s2, e2.trans e1⟩⟩
/-- the amount of what is near -/
theorem abs_of {q : Int64} {n : Nat} (hn : n < 2 ^ 63) (h : q.toInt = n ∨ q.toInt = -(n : Int)) : (if q < 0 then -q else q) = lN n := by
  have h0 : (0 : Int64).toInt = 0 := rfl
  by_cases hq : q < 0
  · rw [if_pos hq]
    rw [Int64.lt_iff_toInt_lt, h0] at hq
    apply Int64.toInt_inj.mp
    rw [pk_lT hn, neg_ti (by omega)]
    omega
  · rw [if_neg hq]
    rw [Int64.lt_iff_toInt_lt, h0] at hq
    apply Int64.toInt_inj.mp
    rw [pk_lT hn]
    omega
theorem div_ti {v : Int64} {n p : Nat} (hn : n < 2 ^ 62) (h : v.toInt = n ∨ v.toInt = -(n : Int)) (hp : 0 < p) (hp2 : p < 2 ^ 63) : (v / lN p).toInt = ((n / p : Nat) : Int) ∨ (v / lN p).toInt = -((n / p : Nat) : Int) := by
  have hle : n / p ≤ n := Nat.div_le_self _ _
  rw [Int64.toInt_div, pk_lT hp2]
  rcases h with e | e
  · refine Or.inl ?_
    rw [e, ← Int.ofNat_tdiv]
    generalize n / p = w at hle ⊢
    simp only [Int.bmod_def]
    split <;> omega
  · refine Or.inr ?_
    rw [e, Int.neg_tdiv, ← Int.ofNat_tdiv]
    generalize n / p = w at hle ⊢
    simp only [Int.bmod_def]
    split <;> omega
theorem rem_ti {q : Int64} {n : Nat} (hn : n < 2 ^ 62) (h : q.toInt = n ∨ q.toInt = -(n : Int)) : (q - q / lN 10 * lN 10).toInt = ((n % 10 : Nat) : Int) ∨ (q - q / lN 10 * lN 10).toInt = -((n % 10 : Nat) : Int) := by
  have hd : (q.toInt = n ∧ (q / lN 10).toInt = ((n / 10 : Nat) : Int)) ∨ (q.toInt = -(n : Int) ∧ (q / lN 10).toInt = -((n / 10 : Nat) : Int)) := by
    rw [Int64.toInt_div, pk_lT (n := 10) (by decide)]
    rcases h with e | e
    · refine Or.inl ⟨e, ?_⟩
      rw [e, ← Int.ofNat_tdiv]
      simp only [Int.bmod_def]
      split <;> omega
    · refine Or.inr ⟨e, ?_⟩
      rw [e, Int.neg_tdiv, ← Int.ofNat_tdiv]
      simp only [Int.bmod_def]
      split <;> omega
  rw [Int64.toInt_sub, Int64.toInt_mul, pk_lT (n := 10) (by decide)]
  rcases hd with ⟨e1, e2⟩ | ⟨e1, e2⟩
  · rw [e1, e2]
    refine Or.inl ?_
    simp only [Int.bmod_def]
    split <;> split <;> omega
  · rw [e1, e2]
    refine Or.inr ?_
    simp only [Int.bmod_def]
    split <;> split <;> omega
theorem dig_b {x : Nat} (hx : x < 10) : (nI (48 + x)).toInt8.toInt32 = nI (48 + x) := by
  have key : ∀ x, x < 10 → (nI (48 + x)).toInt8.toInt32 = nI (48 + x) := by decide
  exact key x hx
theorem k_spell_l {D : JD} {d : Nat} {m n : Nat} {v : Int64} {Q : JO → JH → Prop} (hn : n < 10 ^ 17) (hv : v.toInt = n ∨ v.toInt = -(n : Int)) : ∀ (k : Nat) (h : JH) (bs : List Int32), TwO h m bs → bs.length + k + 1 < 500000 → k ≤ 17 →
    (∀ h', TwS h h' m (bs ++ dgs n k) → jfi h' 237 m = jfi h 237 m → Q (.inl none) h') → L_X8_spell_36 D (d + 1) Q (k + 2) m v (lN (10 ^ k)) h := by
  intro k
  induction k with
  | zero =>
    intro h bs ho hb hk hQ
    refine ⟨fun z => absurd z (by rw [cmp_le]; exact fun w => w (by decide)), fun _ => ⟨by decide, useL0 k_abs ?_⟩⟩
    rintro w h1 _ _ ⟨rfl, rfl⟩
    have hq := div_ti (p := 10 ^ 0) (by omega) hv (by decide) (by decide)
    have hr := abs_of (by have : n / 10 ^ 0 % 10 < 10 := Nat.mod_lt _ (by omega); omega) (rem_ti (n := n / 10 ^ 0) (Nat.lt_of_le_of_lt (Nat.div_le_self _ _) (by omega)) hq)
    rw [show (10 : Int64) = lN 10 from rfl, hr, lN_i, show (48 : Int32) = nI 48 from rfl, nI_add]
    refine ⟨ho.2.1, useV0 (k_say ho (by omega)) fun h2 _ _ ⟨s1, e1⟩ => ?_⟩
    refine ⟨fun _ => hQ h2 ?_ e1, fun z => absurd (by decide) z⟩
    rw [dig_b (Nat.mod_lt _ (by omega))] at s1
    simpa [dgs] using s1
  | succ k ih =>
    intro h bs ho hb hk hQ
    have hp := p10 (k + 1) (by omega)
    have e0 : ¬ lN (10 ^ (k + 1)) = 0 := fun z => by
      have := (pk_lEQ (b := 0) hp.2 (by decide)).mp z; omega
    refine ⟨fun z => absurd z (by rw [cmp_le]; exact fun w => w ((pk_lLT (a := 0) (by decide) hp.2).mpr hp.1)), fun _ => ⟨e0, useL0 k_abs ?_⟩⟩
    rintro w h1 _ _ ⟨rfl, rfl⟩
    have hq := div_ti (p := 10 ^ (k + 1)) (by omega) hv hp.1 hp.2
    have hr := abs_of (by have : n / 10 ^ (k + 1) % 10 < 10 := Nat.mod_lt _ (by omega); omega) (rem_ti (n := n / 10 ^ (k + 1)) (Nat.lt_of_le_of_lt (Nat.div_le_self _ _) (by omega)) hq)
    rw [show (10 : Int64) = lN 10 from rfl, hr, lN_i, show (48 : Int32) = nI 48 from rfl, nI_add]
    refine ⟨ho.2.1, useV0 (k_say ho (by omega)) fun h2 _ _ ⟨s1, e1⟩ => ?_⟩
    rw [dig_b (Nat.mod_lt _ (by omega))] at s1
    have e2 : lN (10 ^ (k + 1)) / lN 10 = lN (10 ^ k) := by
      rw [pk_lDiv hp.2 (by decide) (by decide), Nat.pow_succ, Nat.mul_div_cancel _ (by decide)]
    rw [e2]
    refine ih h2 _ s1.1 (by simp; omega) (by omega) fun h3 s2 e3 => hQ h3 ?_ (e3.trans e1)
    have := s1.tr s2
    simpa [dgs, List.append_assoc] using this
theorem k_spell_p {D : JD} {d : Nat} {m n : Nat} {v : Int64} {h : JH} {Q : JO → JH → Prop} (hn : n < 10 ^ 16) (hv : v.toInt = n ∨ v.toInt = -(n : Int)) : ∀ (f k : Nat), f + k = 17 → (∃ i, L_X8_spell_36 D (d + 1) Q i m v (lN (10 ^ (dTop n f k))) h) → L_X8_spell_14 D (d + 1) Q (f + 1) m v (lN (10 ^ k)) h := by
  intro f
  induction f with
  | zero =>
    intro k hk hQ
    rw [show k = 17 by omega] at hQ ⊢
    refine ⟨by decide, useL0 k_abs ?_⟩
    rintro w h1 _ _ ⟨rfl, rfl⟩
    have hr := abs_of (by have := Nat.div_le_self n (10 ^ 17); omega) (div_ti (p := 10 ^ 17) (by omega) hv (by decide) (by decide))
    refine ⟨fun _ => hQ, fun z => absurd ?_ z⟩
    rw [hr, cmp_lt, show (10 : Int64) = lN 10 from rfl, Nat.div_eq_of_lt (by omega)]
    decide
  | succ f ih =>
    intro k hk hQ
    have hp := p10 k (by omega)
    have e0 : ¬ lN (10 ^ k) = 0 := fun z => by
      have := (pk_lEQ (b := 0) hp.2 (by decide)).mp z; omega
    refine ⟨e0, useL0 k_abs ?_⟩
    rintro w h1 _ _ ⟨rfl, rfl⟩
    have hle := Nat.div_le_self n (10 ^ k)
    have hr := abs_of (by omega) (div_ti (p := 10 ^ k) (by omega) hv hp.1 hp.2)
    rw [hr, cmp_lt, show (10 : Int64) = lN 10 from rfl, pk_lLT (by omega) (by decide)]
    have hiff : n / 10 ^ k < 10 ↔ ¬ 10 ^ (k + 1) ≤ n := by
      rw [Nat.div_lt_iff_lt_mul hp.1, Nat.pow_succ, Nat.mul_comm]; omega
    unfold dTop at hQ
    refine ⟨fun z => ?_, fun z => ?_⟩
    · rwa [if_neg (hiff.mp z)] at hQ
    · rw [hiff, Classical.not_not] at z
      rw [if_pos z] at hQ
      rw [lN_mul, ← Nat.pow_succ]
      exact ih (k + 1) (by omega) hQ
theorem k_spell {D : JD} {d : Nat} {h : JH} {m : Nat} {v : Int64} {bs : List Int32} (ho : TwO h m bs) (hn : bs.length + 20 < 500000) (hv : -(10 ^ 16) < v.toInt ∧ v.toInt < 10 ^ 16) :
    cX8_spell D (d + 2) m v h (pV D h (fun h' => TwS h h' m (bs ++ sDigits v) ∧ jfi h' 237 m = jfi h 237 m) no) := by
  have main : ∀ (Q : JO → JH → Prop) (n : Nat) (h1 : JH) (bs1 : List Int32), n < 10 ^ 16 → (v.toInt = n ∨ v.toInt = -(n : Int)) → TwO h1 m bs1 → bs1.length + 19 < 500000 → (∀ h', TwS h1 h' m (bs1 ++ dgs n (dTop n 17 0)) → jfi h' 237 m = jfi h1 237 m → Q (.inl none) h') → W_X8_spell_12 D (d + 1) Q m v h1 := by
    intro Q n h1 bs1 hn' hv' ho1 hb1 hQ
    have hle := dTop_le n 17 0
    exact ⟨18, k_spell_p hn' hv' 17 0 rfl ⟨_, k_spell_l (by omega) hv' (dTop n 17 0) h1 bs1 ho1 (by omega) (by omega) hQ⟩⟩
  refine t_X8_spell ⟨fun z => ?_, fun z => ?_⟩
  · rw [cmp_ge] at z
    obtain ⟨n, hn1, rfl⟩ := pk_lOf z
    have e : (lN n).toInt = n := pk_lT hn1
    rw [e] at hv
    refine main _ n h bs (by omega) (Or.inl e) ho (by omega) fun h' s e2 => endV fun _ _ => ⟨?_, e2⟩
    simp only [sDigits, if_neg z, e, Int.toNat_natCast]
    exact s
  · rw [cmp_ge, Classical.not_not] at z
    refine ⟨ho.2.1, useV0 (k_say ho (by omega)) fun h1 _ _ ⟨s1, e1⟩ => ?_⟩
    have z0 : v.toInt < 0 := by
      have := Int64.lt_iff_toInt_lt.mp z
      rwa [show (0 : Int64).toInt = 0 from rfl] at this
    have hti : (-v).toInt = - v.toInt := neg_ti (by omega)
    refine main _ (-v).toInt.toNat h1 _ (by rw [hti]; omega) (Or.inr (by rw [hti]; omega)) s1.1 (by simp; omega) fun h' s e2 => endV fun _ _ => ⟨?_, e2.trans e1⟩
    have := s1.tr s
    simp only [sDigits, if_pos z]
    simpa [List.append_assoc] using this
