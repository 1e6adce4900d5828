/-! comparing cells -/
theorem jby.bd {x : Int32} (h : jby x) : -128 ≤ x.toInt ∧ x.toInt ≤ 127 := by
  unfold jby at h
  rw [← h, Int8.toInt_toInt32]
  have h1 := x.toInt8.le_toInt
  have h2 := x.toInt8.toInt_lt
  constructor <;> omega
theorem sub_sm {x y : Int32} (hx : -100000 ≤ x.toInt ∧ x.toInt ≤ 100000) (hy : -100000 ≤ y.toInt ∧ y.toInt ≤ 100000) : (x - y).toInt = x.toInt - y.toInt := by
  rw [Int32.toInt_sub]
  simp only [Int.bmod_def]
  split <;> omega
/-- an int whose sign is that of c -/
def sgn (x : Int32) (c : Int) : Prop := (x < 0 ↔ c < 0) ∧ (x = 0 ↔ c = 0)
theorem sgn_of {x : Int32} {c : Int} (h1 : x.toInt < 0 ↔ c < 0) (h2 : x.toInt = 0 ↔ c = 0) : sgn x c := by
  refine ⟨?_, ?_⟩
  · rw [← h1, Int32.lt_iff_toInt_lt]; rfl
  · rw [← h2, ← Int32.toInt_inj]; rfl
theorem vCmpS_drop {s t : List Int32} {i : Nat} (h : ∀ j, j < i → s[j]? = t[j]?) (hs : i ≤ s.length) (ht : i ≤ t.length) : vCmpS s t = vCmpS (s.drop i) (t.drop i) := by
  induction i generalizing s t with
  | zero => rfl
  | succ i ih =>
    cases s with
    | nil => simp at hs
    | cons a s => cases t with
      | nil => simp at ht
      | cons b t =>
        have e : a = b := by simpa using h 0 (by omega)
        subst e
        simp only [vCmpS, beq_self_eq_true, if_true, List.drop_succ_cons]
        exact ih (fun j hj => by simpa using h (j + 1) (by omega)) (by simpa using hs) (by simpa using ht)
theorem k_order_l {D : JD} {d : Nat} {h : JH} {a b : Nat} {s t : List Int32} {Q : JO → JH → Prop} (ha : a ≠ 0) (hb : b ≠ 0) (hsa : jfi h 68 a = nI s.length) (hsb : jfi h 68 b = nI t.length) (ls : s.length ≤ 40) (lt : t.length ≤ 40) (ta : jfr h 67 a ≠ 0) (tb : jfr h 67 b ≠ 0) (la : jln h (jfr h 67 a) = 40) (lb : jln h (jfr h 67 b) = 40)
    (va : ∀ i c, s[i]? = some c → jai h (jfr h 67 a) i = c ∧ jby c) (vb : ∀ i c, t[i]? = some c → jai h (jfr h 67 b) i = c ∧ jby c) (hQ : ∀ x, sgn x (vCmpS s t) → Q (.inl (some (vI x))) h) :
    ∀ (k i : Nat), k = s.length - i → i ≤ s.length → i ≤ t.length → (∀ j, j < i → s[j]? = t[j]?) → L_X14_order_24 D d Q (k + 1) a b (nI i) h := by
  have fin : ∀ i, i ≤ s.length → i ≤ t.length → (i = s.length ∨ i = t.length) → (∀ j, j < i → s[j]? = t[j]?) → W_X14_order_75 D d Q a b h := by
    intro i h1 h2 h3 h4
    refine ⟨ha, hb, hQ _ ?_⟩
    rw [hsa, hsb]
    have ea : (nI s.length).toInt = s.length := nI_toInt (by omega)
    have eb : (nI t.length).toInt = t.length := nI_toInt (by omega)
    have e : (nI s.length - nI t.length).toInt = (s.length : Int) - t.length := by rw [sub_sm (by omega) (by omega), ea, eb]
    have hv : vCmpS s t = if s.length < t.length then -1 else if s.length = t.length then 0 else 1 := by
      rw [vCmpS_drop h4 h1 h2]
      rcases h3 with z | z
      · rw [z, List.drop_length]
        cases hd : t.drop s.length with
        | nil =>
          have : t.length ≤ s.length := by have := congrArg List.length hd; simp at this; omega
          rw [if_neg (by omega), if_pos (by omega)]; rfl
        | cons x l =>
          have : s.length < t.length := by have := congrArg List.length hd; simp at this; omega
          rw [if_pos this]; rfl
      · rw [z, List.drop_length]
        cases hd : s.drop t.length with
        | nil =>
          have : s.length ≤ t.length := by have := congrArg List.length hd; simp at this; omega
          rw [if_neg (by omega), if_pos (by omega)]; rfl
        | cons x l =>
          have : t.length < s.length := by have := congrArg List.length hd; simp at this; omega
          rw [if_neg (by omega), if_neg (by omega)]; rfl
    refine sgn_of ?_ ?_
    · rw [e, hv]; split
      · omega
      · split <;> omega
    · rw [e, hv]; split
      · omega
      · split <;> omega
  intro k
  induction k with
  | zero =>
    intro i hk hi hi2 hj
    refine ⟨ha, fun _ => fin i hi hi2 (Or.inl (by omega)) hj, fun z => absurd (by rw [hsa]; exact nI_le (by omega) (by omega)) z⟩
  | succ k ih =>
    intro i hk hi hi2 hj
    have hi' : i < s.length := by omega
    refine ⟨ha, fun z => absurd z (by rw [hsa]; exact nI_ge hi' (by omega)), fun _ => ⟨hb, fun z => ?_, fun z => ?_⟩⟩
    · rw [hsb] at z
      exact fin i hi hi2 (Or.inr (by have := (nI_leI (by omega) (by omega)).mp z; omega)) hj
    · rw [hsb] at z
      have hit : i < t.length := by
        rcases Nat.lt_or_ge i t.length with q | q
        · exact q
        · exact absurd (nI_le q (by omega)) z
      obtain ⟨a1, a2⟩ := va i s[i] (List.getElem?_eq_getElem hi')
      obtain ⟨b1, b2⟩ := vb i t[i] (List.getElem?_eq_getElem hit)
      have inA : jin (nI i) (jln h (jfr h 67 a)) := by rw [la]; exact jin_nI (by omega) (by decide)
      have inB : jin (nI i) (jln h (jfr h 67 b)) := by rw [lb]; exact jin_nI (by omega) (by decide)
      refine ⟨ta, inA, tb, inB, fun e => ?_, fun e => ⟨inA, inB, hQ _ ?_⟩⟩
      · rw [ixn_nI (by omega), a1, b1] at e
        rw [nI_1]
        refine ih (i + 1) (by omega) (by omega) (by omega) fun j hj' => ?_
        rcases Nat.lt_or_ge j i with q | q
        · exact hj j q
        · rw [show j = i by omega, List.getElem?_eq_getElem hi', List.getElem?_eq_getElem hit, e]
      · rw [ixn_nI (by omega), a1, b1] at e ⊢
        have ba := a2.bd
        have bb := b2.bd
        have hv : vCmpS s t = if s[i] < t[i] then -1 else 1 := by
          rw [vCmpS_drop hj hi hi2, List.drop_eq_getElem_cons hi', List.drop_eq_getElem_cons hit]
          simp only [vCmpS, beq_iff_eq, e, if_false]
        have ne : (s[i]).toInt ≠ (t[i]).toInt := fun q => e (Int32.toInt_inj.mp q)
        refine sgn_of ?_ ?_
        · rw [sub_sm (by omega) (by omega), hv]; split <;> rename_i q <;> rw [Int32.lt_iff_toInt_lt] at q <;> omega
        · rw [sub_sm (by omega) (by omega), hv]; split <;> rename_i q <;> rw [Int32.lt_iff_toInt_lt] at q <;> omega
/-- the order of two cells of one type -/
theorem k_order {D : JD} {d : Nat} {h : JH} {a b : Nat} {v w : Val} (ha : Cel D h a v) (hb : Cel D h b w) (hv : v.1 ≠ 0) (hw : v.1 = w.1) :
    cX14_order D (d + 2) a b h (pI D h (fun x h' => sgn x (vCmp v w) ∧ h' = h) no) := by
  refine JW.inv fun hI => ?_
  obtain ⟨-, a2⟩ := id ha
  obtain ⟨-, b2⟩ := id hb
  rcases a2 with ⟨rfl, -⟩ | ⟨a3, a4, a5⟩
  · exact absurd rfl hv
  rcases b2 with ⟨rfl, -⟩ | ⟨b3, b4, b5⟩
  · exact absurd hw hv
  have num : ∀ (x y : Int64), jfl h 66 a = x → jfl h 66 b = y → ¬ jfr h 64 a = jcs D 346 → vCmp v w = (if x < y then -1 else if x == y then 0 else 1) → cX14_order D (d + 2) a b h (pI D h (fun x h' => sgn x (vCmp v w) ∧ h' = h) no) := by
    intro x y e1 e2 hne hc
    refine t_X14_order ⟨ha.1.1, fun z => absurd z hne, fun _ => ⟨hb.1.1, useI0 k_cmpL ?_⟩⟩
    rintro r h' _ _ ⟨rfl, rfl⟩
    refine endI fun _ _ => ⟨?_, rfl⟩
    rw [e1, e2, hc]
    rcases cmp3 x y with ⟨h1, h2, h3, h4⟩ | ⟨h1, h2, h3, h4⟩ | ⟨h1, h2, h3, h4⟩ <;> rw [h4]
    · rw [if_neg h3, if_neg (by simpa using h2)]; exact ⟨by decide, by decide⟩
    · rw [if_neg h3, if_pos (by simpa using h2)]; exact ⟨by decide, by decide⟩
    · rw [if_pos h3]; exact ⟨by decide, by decide⟩
  have tne : ∀ t, (t = 16 ∨ t = 20) → tyc D t ≠ jcs D 346 := fun t ht e => by
    have := tyc_ne hI (t := 25) (by rcases ht with z | z <;> simp [z]) (by simp) e
    omega
  rcases a5 with ⟨x, rfl, y⟩ | ⟨x, rfl, y, -⟩ | ⟨s, rfl, y2, y3, y4, y5⟩
  · rcases b5 with ⟨x', rfl, y'⟩ | ⟨x', rfl, y', -⟩ | ⟨s', rfl, -⟩
    · exact num _ _ y y' (by rw [a4]; exact tne _ (Or.inl rfl)) rfl
    · cases hw
    · cases hw
  · rcases b5 with ⟨x', rfl, y'⟩ | ⟨x', rfl, y', -⟩ | ⟨s', rfl, -⟩
    · cases hw
    · exact num _ _ y y' (by rw [a4]; exact tne _ (Or.inr rfl)) rfl
    · cases hw
  · rcases b5 with ⟨x', rfl, y'⟩ | ⟨x', rfl, y', -⟩ | ⟨s', rfl, z2, z3, z4, z5⟩
    · cases hw
    · cases hw
    · have la : jln h (jfr h 67 a) = 40 := by
        rcases ha.1.2.2.2.2 with q | q
        · exact absurd q y2
        · exact q.2.1
      have lb : jln h (jfr h 67 b) = 40 := by
        rcases hb.1.2.2.2.2 with q | q
        · exact absurd q z2
        · exact q.2.1
      refine t_X14_order ⟨ha.1.1, fun _ => ⟨s.length + 1, ?_⟩, fun z => absurd a4 z⟩
      exact k_order_l ha.1.1 hb.1.1 y4 z4 y3 z3 y2 z2 la lb y5 z5 (fun x hx => endI fun _ _ => ⟨hx, rfl⟩) s.length 0 (by omega) (by omega) (by omega) (fun j hj => absurd hj (by omega))
theorem k_alike {D : JD} {d : Nat} {h : JH} {a b : Nat} {v w : Val} (ha : Cel D h a v) (hb : Cel D h b w) :
    cX14_alike D (d + 3) a b h (pI D h (fun x h' => x = (if vAlike v w then 1 else 0) ∧ h' = h) no) := by
  refine JW.inv fun hI => ?_
  have e1 : (v.1 = 0 ∧ jfi h 65 a = 1) ∨ (v.1 ≠ 0 ∧ jfi h 65 a = 0 ∧ jfr h 64 a = tyc D v.1 ∧ (v.1 = 16 ∨ v.1 = 20 ∨ v.1 = 25)) := by
    rcases ha.2 with ⟨rfl, z⟩ | ⟨z1, z2, z3⟩
    · exact Or.inl ⟨rfl, z⟩
    · refine Or.inr ?_
      rcases z3 with ⟨x, rfl, -⟩ | ⟨x, rfl, -⟩ | ⟨x, rfl, -⟩
      · exact ⟨(fun e => by cases e), z1, z2, Or.inl rfl⟩
      · exact ⟨(fun e => by cases e), z1, z2, Or.inr (Or.inl rfl)⟩
      · exact ⟨(fun e => by cases e), z1, z2, Or.inr (Or.inr rfl)⟩
  have e2 : (w.1 = 0 ∧ jfi h 65 b = 1) ∨ (w.1 ≠ 0 ∧ jfi h 65 b = 0 ∧ jfr h 64 b = tyc D w.1 ∧ (w.1 = 16 ∨ w.1 = 20 ∨ w.1 = 25)) := by
    rcases hb.2 with ⟨rfl, z⟩ | ⟨z1, z2, z3⟩
    · exact Or.inl ⟨rfl, z⟩
    · refine Or.inr ?_
      rcases z3 with ⟨x, rfl, -⟩ | ⟨x, rfl, -⟩ | ⟨x, rfl, -⟩
      · exact ⟨(fun e => by cases e), z1, z2, Or.inl rfl⟩
      · exact ⟨(fun e => by cases e), z1, z2, Or.inr (Or.inl rfl)⟩
      · exact ⟨(fun e => by cases e), z1, z2, Or.inr (Or.inr rfl)⟩
  have h14 : (v.1 = 0 ∨ w.1 = 0) → W_X14_alike_14 D (d + 2) (pI D h (fun x h' => x = (if vAlike v w then 1 else 0) ∧ h' = h) no) a b h := by
    intro hz
    have hva : vAlike v w = (v.1 == w.1) := by
      unfold vAlike
      rw [if_pos (by simpa using hz)]
    rw [hva]
    refine ⟨ha.1.1, fun z => ⟨jbo0, endI fun _ _ => ⟨?_, rfl⟩⟩, fun z => ⟨hb.1.1, fun z2 => ⟨jbo0, endI fun _ _ => ⟨?_, rfl⟩⟩, fun z2 => ⟨jbo1, endI fun _ _ => ⟨?_, rfl⟩⟩⟩⟩
    · rcases e1 with ⟨q, q2⟩ | ⟨q, q2, -⟩
      · rw [q2] at z; exact absurd z (by decide)
      · have : w.1 = 0 := by rcases hz with y | y; exact absurd y q; exact y
        rw [if_neg (by rw [this]; simpa using q)]
    · rcases e2 with ⟨q, q2⟩ | ⟨q, q2, -⟩
      · rw [q2] at z2; exact absurd z2 (by decide)
      · have : v.1 = 0 := by rcases hz with y | y; exact y; exact absurd y q
        rw [if_neg (by rw [this]; simpa using fun y => q y.symm)]
    · rcases e1 with ⟨q, q2⟩ | ⟨q, q2, -⟩
      · rcases e2 with ⟨r, r2⟩ | ⟨r, r2, -⟩
        · rw [if_pos (by rw [q, r]; rfl)]
        · exact absurd r2 z2
      · exact absurd q2 z
  refine t_X14_alike ⟨ha.1.1, fun z => h14 ?_, fun z => ⟨hb.1.1, fun z2 => ⟨fun z3 => ⟨jbo0, endI fun _ _ => ⟨?_, rfl⟩⟩, fun z3 => ?_⟩, fun z2 => h14 ?_⟩⟩
  · rcases e1 with ⟨q, -⟩ | ⟨-, q2, -⟩
    · exact Or.inl q
    · exact absurd q2 z
  · rcases e1 with ⟨q, q2⟩ | ⟨q, -, q3, q4⟩
    · rw [q2] at z; exact absurd z (by decide)
    · rcases e2 with ⟨r, r2⟩ | ⟨r, -, r3, r4⟩
      · rw [r2] at z2; exact absurd z2 (by decide)
      · have : v.1 ≠ w.1 := fun y => z3 (by rw [q3, r3, y])
        unfold vAlike
        rw [if_neg (show ¬ (v.1 == 0 || w.1 == 0) = true by simp [q, r])]
        rw [if_neg (by simp [this])]
  · rcases e1 with ⟨q, q2⟩ | ⟨q, -, q3, q4⟩
    · rw [q2] at z; exact absurd z (by decide)
    · rcases e2 with ⟨r, r2⟩ | ⟨r, -, r3, r4⟩
      · rw [r2] at z2; exact absurd z2 (by decide)
      · have hvw : v.1 = w.1 := tyc_ne hI (by omega) (by omega) (by rw [← q3, ← r3]; exact z3)
        refine useI0 (k_order ha hb q hvw) ?_
        rintro x h' _ _ ⟨sx, rfl⟩
        have hva : vAlike v w = (vCmp v w == 0) := by
          unfold vAlike
          rw [if_neg (show ¬ (v.1 == 0 || w.1 == 0) = true by simp [q, r])]
          simp [hvw]
        rw [hva]
        refine ⟨fun y => ⟨jbo0, endI fun _ _ => ⟨?_, rfl⟩⟩, fun y => ⟨jbo1, endI fun _ _ => ⟨?_, rfl⟩⟩⟩
        · rw [if_neg (by simpa using fun q => y (sx.2.mpr q))]
        · rw [if_pos (by simpa using sx.2.mp y)]
  · rcases e2 with ⟨q, -⟩ | ⟨-, q2, -⟩
    · exact Or.inr q
    · exact absurd q2 z2
