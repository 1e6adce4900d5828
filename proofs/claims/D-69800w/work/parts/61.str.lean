/-! strings -/
def jhash (s : List Int32) : Int32 := s.foldl (fun a b => 31 * a + (b &&& 255)) 0
/-- a string r of the bytes s -/
def StR (h : JH) (r : Nat) (s : List Int32) : Prop :=
  r ≠ 0 ∧ (jkd h r = 12 ∨ jkd h r = 51) ∧ jfi h 76 r = 0 ∧ jfr h 75 r ≠ 0 ∧ (jkd h (jfr h 75 r) = 66 ∨ jkd h (jfr h 75 r) = 219) ∧ jln h (jfr h 75 r) = s.length ∧ s.length < 100000 ∧ (∀ i b, s[i]? = some b → jai h (jfr h 75 r) i = b ∧ jby b) ∧
  (jfi h 77 r = 0 ∨ jfi h 77 r = jhash s) ∧ (jfi h 78 r = 0 ∨ (jfi h 78 r = 1 ∧ jhash s = 0)) ∧ (jkd h r = 51 → jfi h 77 r = 0 → jfi h 78 r = 1)
theorem StR.sb {h : JH} {r : Nat} {s : List Int32} (hs : StR h r s) : sbt (jkd h r) 64 = true := by
  rcases hs.2.1 with e | e <;> rw [e] <;> rfl
theorem StR.at {h : JH} {r : Nat} {s : List Int32} (hs : StR h r s) {i : Nat} (hi : i < s.length) : jai h (jfr h 75 r) i = s[i] := (hs.2.2.2.2.2.2.2.1 i s[i] (List.getElem?_eq_getElem hi)).1
theorem and255 (x : Int32) : (Int32.toUInt32 (x &&& 255) % 65536).toInt32 = x &&& 255 := by
  have h1 : Int32.toUInt32 (x &&& 255) % 65536 = Int32.toUInt32 (x &&& 255) := by
    apply UInt32.toNat_inj.mp
    rw [UInt32.toNat_mod]
    show _ % 65536 = _
    apply Nat.mod_eq_of_lt
    have : (Int32.toUInt32 (x &&& 255)).toNat = (Int32.toUInt32 x).toNat &&& 255 := by
      rw [Int32.toUInt32_and, UInt32.toNat_and]; rfl
    rw [this]
    have := @Nat.and_le_right (Int32.toUInt32 x).toNat 255
    omega
  rw [h1]; simp
theorem k_coder {D : JD} {d : Nat} {h : JH} {r : Nat} {s : List Int32} (hs : StR h r s) : cJ5_coder D (d + 1) r h (pI D h (fun v h' => v = 0 ∧ h' = h) no) := by
  refine t_J5_coder ⟨hs.1, ?_, endI fun _ _ => ⟨hs.2.2.1, rfl⟩⟩
  rw [hs.2.2.1]; rfl
theorem k_isLatin1 {D : JD} {d : Nat} {h : JH} {r : Nat} {s : List Int32} (hs : StR h r s) : cJ5_isLatin1 D (d + 1) r h (pI D h (fun v h' => v = 1 ∧ h' = h) no) :=
  t_J5_isLatin1 ⟨hs.1, fun z => absurd hs.2.2.1 z, fun _ => ⟨jbo1, endI fun _ _ => ⟨rfl, rfl⟩⟩⟩
theorem k_length {D : JD} {d : Nat} {h : JH} {r : Nat} {s : List Int32} (hs : StR h r s) : cJ5_length D (d + 2) r h (pI D h (fun v h' => v = nI s.length ∧ h' = h) no) := by
  refine t_J5_length ⟨hs.1, hs.2.2.2.1, useI0 (k_coder hs) ?_⟩
  rintro v h' hI hl ⟨rfl, rfl⟩
  refine endI fun _ _ => ⟨?_, rfl⟩
  rw [hs.2.2.2.2.2.1]
  simp
theorem k_charAt {D : JD} {d : Nat} {h : JH} {r i : Nat} {x : Int32} {s : List Int32} (hs : StR h r s) (hx : x = nI i) (hi : i < s.length) : cJ5_charAt D (d + 4) r x h (pI D h (fun v h' => v = s[i] &&& 255 ∧ h' = h) no) := by
  subst hx
  have hl := hs.2.2.2.2.2.2.1
  have hlen := hs.2.2.2.2.2.1
  have key : cJ8_charAt D (d + 3) (jfr h 75 r) (nI i) h (pI D h (fun v h' => v = s[i] &&& 255 ∧ h' = h) no) := by
    refine t_J8_charAt ⟨hs.2.2.2.1, ?_⟩
    have hc : cJ5_checkIndex D (d + 2) (nI i) (nI (jln h (jfr h 75 r))) h (pV D h (fun h' => h' = h) no) := by
      refine t_J5_checkIndex (useI0 (K := fun v h' => h' = h) (t_J9_checkIndex ⟨fun z => absurd z (nI_pos (by omega)), fun _ => ⟨fun _ => endI fun _ _ => rfl, fun z => absurd (nI_lt (by omega) (by omega)) z⟩⟩) ?_)
      rintro v h' _ _ rfl
      exact endV fun _ _ => rfl
    refine useV0 hc ?_
    rintro h' hI hl' rfl
    refine ⟨jin_nI (by omega) (by omega), ?_, endI fun _ _ => ⟨?_, rfl⟩⟩
    · rw [and255]
      show Value.int (Int32.toUInt32 _ % 65536).toInt32 = _
      rw [and255]
    · rw [and255, ixn_nI (by omega), hs.at hi]
  refine t_J5_charAt ⟨hs.1, useI0 (k_isLatin1 hs) ?_⟩
  rintro v h' hI hl' ⟨rfl, rfl⟩
  refine ⟨fun z => absurd z (by decide), fun _ => useI0 key ?_⟩
  rintro v h' hI hl' ⟨rfl, rfl⟩
  refine ⟨?_, endI fun _ _ => ⟨rfl, rfl⟩⟩
  show Value.int (Int32.toUInt32 _ % 65536).toInt32 = _
  rw [and255]
/-- equals of the bytes -/
theorem k_equals8_l {D : JD} {d : Nat} {h : JH} {a b : Nat} {s t : List Int32} {Q : JO → JH → Prop} (ha : a ≠ 0) (hb : b ≠ 0) (hla : jln h a = s.length) (hlb : jln h b = t.length) (hst : s.length = t.length) (hl : s.length < 100000)
    (hs : ∀ i b', s[i]? = some b' → jai h a i = b') (ht : ∀ i b', t[i]? = some b' → jai h b i = b') (hQ : Q (.inl (some (vI (if s = t then 1 else 0)))) h) :
    ∀ (k i : Nat), k = s.length - i → i ≤ s.length → (∀ j, j < i → s[j]? = t[j]?) → L_J8_equals_9 D d Q (k + 1) a b (nI i) h := by
  intro k
  induction k with
  | zero =>
    intro i hk hi hj
    refine ⟨ha, fun _ => ?_, fun z => absurd (by rw [hla]; exact nI_le (by omega) (by omega)) z⟩
    have : s = t := by
      apply List.ext_getElem? fun j => ?_
      rcases Nat.lt_or_ge j i with q | q
      · exact hj j q
      · rw [List.getElem?_eq_none (by omega), List.getElem?_eq_none (by omega)]
    rw [if_pos this] at hQ
    exact hQ
  | succ k ih =>
    intro i hk hi hj
    have hi' : i < s.length := by omega
    refine ⟨ha, fun z => absurd z (by rw [hla]; exact nI_ge hi' (by omega)), fun _ => ⟨jin_nI (by omega) (by omega), hb, jin_nI (by omega) (by omega), ?_, ?_⟩⟩
    · intro e
      rw [ixn_nI (by omega), hs i s[i] (List.getElem?_eq_getElem hi'), ht i t[i] (List.getElem?_eq_getElem (by omega))] at e
      rw [nI_1]
      refine ih (i + 1) (by omega) (by omega) fun j hj' => ?_
      rcases Nat.lt_or_ge j i with q | q
      · exact hj j q
      · rw [show j = i by omega, List.getElem?_eq_getElem hi', List.getElem?_eq_getElem (show i < t.length by omega), e]
    · intro e
      have : ¬ s = t := fun z => e (by subst z; rw [ixn_nI (by omega), hs i s[i] (List.getElem?_eq_getElem hi'), ht i s[i] (List.getElem?_eq_getElem hi')])
      rw [if_neg this] at hQ
      exact hQ
theorem k_equals {D : JD} {d : Nat} {h : JH} {r q : Nat} {s t : List Int32} (hs : StR h r s) (ht : StR h q t) : cJ5_equals D (d + 2) r q h (pI D h (fun v h' => v = (if s = t then 1 else 0) ∧ h' = h) no) := by
  have key : cJ8_equals D (d + 1) (jfr h 75 r) (jfr h 75 q) h (pI D h (fun v h' => v = (if s = t then 1 else 0) ∧ h' = h) no) := by
    have h1 := hs.2.2.2.2.2.1
    have h2 := ht.2.2.2.2.2.1
    have h3 := hs.2.2.2.2.2.2.1
    have h4 := ht.2.2.2.2.2.2.1
    refine t_J8_equals ⟨hs.2.2.2.1, ht.2.2.2.1, fun z => endI fun _ _ => ⟨?_, rfl⟩, fun z => ⟨s.length + 1, ?_⟩⟩
    · rw [if_neg fun e => z (by rw [h1, h2, e])]
    · rw [h1, h2] at z
      have hst := (nI_eq (by omega) (by omega)).mp z
      exact k_equals8_l hs.2.2.2.1 ht.2.2.2.1 h1 h2 hst h3 (fun i b e => (hs.2.2.2.2.2.2.2.1 i b e).1) (fun i b e => (ht.2.2.2.2.2.2.2.1 i b e).1) (endI fun _ _ => ⟨rfl, rfl⟩) s.length 0 (by omega) (by omega) (fun j hj => absurd hj (by omega))
  refine t_J5_equals ⟨fun hne => ⟨ht.1, ht.sb, Or.inr ht.sb, hs.1, fun z => absurd (by rw [hs.2.2.1, ht.2.2.1]) z, fun _ => ⟨hs.1, ht.1, useI0 key ?_⟩⟩, fun e => endI fun _ _ => ⟨?_, rfl⟩⟩
  · rintro v h' hI hl ⟨rfl, rfl⟩
    by_cases e : s = t
    · simp only [e, if_true]
      exact ⟨fun z => absurd z (by decide), fun _ => ⟨jbo1, endI fun _ _ => ⟨rfl, rfl⟩⟩⟩
    · simp only [e, if_false]
      exact ⟨fun _ => ⟨jbo0, endI fun _ _ => ⟨rfl, rfl⟩⟩, fun z => absurd trivial z⟩
  · subst e
    rw [if_pos]
    apply List.ext_getElem? fun j => ?_
    have h1 := hs.2.2.2.2.2.1
    have h2 := ht.2.2.2.2.2.1
    rcases Nat.lt_or_ge j s.length with q | q
    · rw [List.getElem?_eq_getElem q, List.getElem?_eq_getElem (show j < t.length by omega), ← hs.at q, ← ht.at (show j < t.length by omega)]
    · rw [List.getElem?_eq_none q, List.getElem?_eq_none (by omega)]
theorem StR.inj {h : JH} {r : Nat} {s t : List Int32} (hs : StR h r s) (ht : StR h r t) : s = t := by
  apply List.ext_getElem? fun j => ?_
  have h1 := hs.2.2.2.2.2.1
  have h2 := ht.2.2.2.2.2.1
  rcases Nat.lt_or_ge j s.length with q | q
  · rw [List.getElem?_eq_getElem q, List.getElem?_eq_getElem (show j < t.length by omega), ← hs.at q, ← ht.at (show j < t.length by omega)]
  · rw [List.getElem?_eq_none q, List.getElem?_eq_none (by omega)]
/-- a string is as it was where its object and its bytes are -/
theorem StR.of {h h' : JH} {r : Nat} {s : List Int32} (hs : StR h r s) (h1 : same h h' r) (h2 : same h h' (jfr h 75 r)) : StR h' r s := by
  obtain ⟨a1, a2, a3, a4, a5, a6, a7, a8, a9, a10, a11⟩ := hs
  unfold StR
  rw [h1.kd, h1.fi, h1.fr, h1.fi, h1.fi, h2.kd, h2.ln]
  exact ⟨a1, a2, a3, a4, a5, a6, a7, fun i b hb => by rw [h2.ai]; exact a8 i b hb, a9, a10, a11⟩
theorem StR.lt {D : JD} {h : JH} {r : Nat} {s : List Int32} (hI : JInv D h) (hs : StR h r s) : r ≤ jsz h ∧ jfr h 75 r ≤ jsz h :=
  ⟨hI.lt (by rcases hs.2.1 with e | e <;> rw [e] <;> decide), hI.refl⟩
theorem StR.fr {D : JD} {h h' : JH} {r : Nat} {s : List Int32} {M : Nat → Prop} (hI : JInv D h) (hs : StR h r s) (hf : fr (jsz h) M h h') (h1 : ¬ M r) (h2 : ¬ M (jfr h 75 r)) : StR h' r s :=
  hs.of (hf r (hs.lt hI).1 h1) (hf _ (hs.lt hI).2 h2)
/-- from h to h' at most the hash of a string has been kept -/
def HS (h h' : JH) : Prop := h' = h ∨ ∃ r s, StR h r s ∧ jkd h r = 12 ∧ ((h' = wfi h 77 r (jhash s)) ∨ (h' = wfi h 78 r 1 ∧ jhash s = 0))
theorem HS.st {h h' : JH} (hh : HS h h') {q : Nat} {t : List Int32} (hq : StR h q t) : StR h' q t := by
  rcases hh with rfl | ⟨r, s, hs, hk, hw⟩
  · exact hq
  · by_cases e : q = r
    · subst e
      cases hs.inj hq
      obtain ⟨a1, a2, a3, a4, a5, a6, a7, a8, a9, a10, a11⟩ := hs
      rcases hw with rfl | ⟨rfl, hz⟩
      · simp only [StR, jkd_wfi, jln_wfi, jfi_wfi, jfl_wfi, jfr_wfi, jai_wfi, jal_wfi, jar_wfi, jsz_wfi, jus_wfi, jkd_wfl, jln_wfl, jfi_wfl, jfl_wfl, jfr_wfl, jai_wfl, jal_wfl, jar_wfl, jsz_wfl, jus_wfl, jkd_wfr, jln_wfr, jfi_wfr, jfl_wfr, jfr_wfr, jai_wfr, jal_wfr, jar_wfr, jsz_wfr, jus_wfr, jkd_wai, jln_wai, jfi_wai, jfl_wai, jfr_wai, jai_wai, jal_wai, jar_wai, jsz_wai, jus_wai, jkd_wal, jln_wal, jfi_wal, jfl_wal, jfr_wal, jai_wal, jal_wal, jar_wal, jsz_wal, jus_wal, jkd_war, jln_war, jfi_war, jfl_war, jfr_war, jai_war, jal_war, jar_war, jsz_war, jus_war, jkd_nwo, jln_nwo, jfi_nwo, jfl_nwo, jfr_nwo, jai_nwo, jal_nwo, jar_nwo, jsz_nwo, jus_nwo, jkd_nwa, jln_nwa, jfi_nwa, jfl_nwa, jfr_nwa, jai_nwa, jal_nwa, jar_nwa, jsz_nwa, jus_nwa, jkd_cpa, jln_cpa, jfi_cpa, jfl_cpa, jfr_cpa, jai_cpa, jal_cpa, jar_cpa, jsz_cpa, jus_cpa, and_true, if_true]
        exact ⟨a1, a2, a3, a4, a5, a6, a7, a8, Or.inr trivial, a10, fun z => by rw [hk] at z; cases z⟩
      · simp only [StR, jkd_wfi, jln_wfi, jfi_wfi, jfl_wfi, jfr_wfi, jai_wfi, jal_wfi, jar_wfi, jsz_wfi, jus_wfi, jkd_wfl, jln_wfl, jfi_wfl, jfl_wfl, jfr_wfl, jai_wfl, jal_wfl, jar_wfl, jsz_wfl, jus_wfl, jkd_wfr, jln_wfr, jfi_wfr, jfl_wfr, jfr_wfr, jai_wfr, jal_wfr, jar_wfr, jsz_wfr, jus_wfr, jkd_wai, jln_wai, jfi_wai, jfl_wai, jfr_wai, jai_wai, jal_wai, jar_wai, jsz_wai, jus_wai, jkd_wal, jln_wal, jfi_wal, jfl_wal, jfr_wal, jai_wal, jal_wal, jar_wal, jsz_wal, jus_wal, jkd_war, jln_war, jfi_war, jfl_war, jfr_war, jai_war, jal_war, jar_war, jsz_war, jus_war, jkd_nwo, jln_nwo, jfi_nwo, jfl_nwo, jfr_nwo, jai_nwo, jal_nwo, jar_nwo, jsz_nwo, jus_nwo, jkd_nwa, jln_nwa, jfi_nwa, jfl_nwa, jfr_nwa, jai_nwa, jal_nwa, jar_nwa, jsz_nwa, jus_nwa, jkd_cpa, jln_cpa, jfi_cpa, jfl_cpa, jfr_cpa, jai_cpa, jal_cpa, jar_cpa, jsz_cpa, jus_cpa, and_true, if_true]
        exact ⟨a1, a2, a3, a4, a5, a6, a7, a8, a9, Or.inr ⟨trivial, hz⟩, fun z => by rw [hk] at z; cases z⟩
    · have hne : jfr h 75 q ≠ r := fun z => by
        have := hq.2.2.2.2.1
        rw [z, hk] at this
        rcases this with w | w <;> cases w
      rcases hw with rfl | ⟨rfl, hz⟩
      · exact hq.of (same_wfi e) (same_wfi hne)
      · exact hq.of (same_wfi e) (same_wfi hne)
theorem HS.fr {h h' : JH} (hh : HS h h') (n : Nat) : fr n (fun q => jkd h q = 12) h h' := by
  rcases hh with rfl | ⟨r, s, hs, hk, rfl | ⟨rfl, hz⟩⟩
  · exact fr.rf _ _ _
  · exact fr_wfi (Or.inl hk)
  · exact fr_wfi (Or.inl hk)
theorem HS.sz {h h' : JH} (hh : HS h h') : jsz h' = jsz h ∧ jus h' = jus h := by
  rcases hh with rfl | ⟨r, s, hs, hk, rfl | ⟨rfl, hz⟩⟩ <;> exact ⟨rfl, rfl⟩
theorem k_hash_l {D : JD} {d : Nat} {h : JH} {a : Nat} {s : List Int32} {Q : JO → JH → Prop} (ha : a ≠ 0) (hla : jln h a = s.length) (hl : s.length < 100000) (hs : ∀ i b', s[i]? = some b' → jai h a i = b') (hQ : Q (.inl (some (vI (jhash s)))) h) :
    ∀ (k i : Nat), k = s.length - i → i ≤ s.length → L_J14_signedHashCode_8 D d Q (k + 1) (jhash (s.take i)) a (nI s.length) (nI i) h := by
  intro k
  induction k with
  | zero =>
    intro i hk hi
    refine ⟨fun _ => ?_, fun z => absurd (nI_le (by omega) (by omega)) z⟩
    rw [List.take_of_length_le (by omega)]; exact hQ
  | succ k ih =>
    intro i hk hi
    have hi' : i < s.length := by omega
    refine ⟨fun z => absurd z (nI_ge hi' (by omega)), fun _ => ⟨ha, jin_nI (by omega) (by omega), ?_⟩⟩
    have := ih (i + 1) (by omega) (by omega)
    rw [List.take_succ_eq_append_getElem hi', jhash, List.foldl_append] at this
    rw [nI_1, ixn_nI (by omega), hs i s[i] (List.getElem?_eq_getElem hi')]
    exact this
theorem k_hash {D : JD} {d : Nat} {h : JH} {r : Nat} {s : List Int32} (hs : StR h r s) : cJ5_hashCode D (d + 4) r h (pI D h (fun v h' => v = jhash s ∧ HS h h') no) := by
  have hs' := hs
  obtain ⟨a1, a2, a3, a4, a5, a6, a7, a8, a9, a10, a11⟩ := hs
  have hin := k_isLatin1 (D := D) (d := d + 2) hs'
  refine t_J5_hashCode ⟨a1, fun z => endI fun _ _ => ⟨?_, Or.inl rfl⟩, fun z => ⟨fun z2 => endI fun _ _ => ⟨?_, Or.inl rfl⟩, fun z2 => useI0 hin ?_⟩⟩
  · rcases a9 with w | w
    · exact absurd w z
    · exact w
  · rcases a10 with w | w
    · exact absurd w z2
    · rw [z, w.2]
  · rintro v h' hI hl ⟨rfl, rfl⟩
    have h12 : jkd h' r = 12 := by
      rcases a2 with w | w
      · exact w
      · exact absurd (a11 w z) (by rw [z2]; decide)
    have key : cJ8_hashCode D (d + 3) (jfr h' 75 r) h' (pI D h' (fun v h2 => v = jhash s ∧ h2 = h') no) := by
      refine t_J8_hashCode ⟨a4, fun e => endI fun _ _ => ⟨?_, rfl⟩, fun e => ⟨?_, endI fun _ _ => ⟨?_, rfl⟩⟩, fun e1 e2 => ?_⟩
      · rw [a6] at e
        have : s.length = 0 := (nI_eq (b := 0) (by omega) (by omega)).mp e
        rw [List.length_eq_zero_iff.mp this]; rfl
      · rw [a6] at e
        have : s.length = 1 := (nI_eq (b := 1) (by omega) (by omega)).mp e
        exact ⟨by decide, by rw [a6, this]; decide⟩
      · rw [a6] at e
        have : s.length = 1 := (nI_eq (b := 1) (by omega) (by omega)).mp e
        obtain ⟨b, rfl⟩ := List.length_eq_one_iff.mp this
        rw [show ixn (0 : Int32) = 0 from rfl, (a8 0 b rfl).1]
        simp [jhash]
      · have hv : cJ14_vectorizedHashCode D (d + 2) (jfr h' 75 r) 0 (nI (jln h' (jfr h' 75 r))) 0 4 h' (pI D h' (fun v h2 => v = jhash s ∧ h2 = h') no) := by
          refine t_J14_vectorizedHashCode ⟨fun _ => ⟨a4, useI0 (K := fun v h2 => v = jhash s ∧ h2 = h') ?_ ?_⟩, fun z => absurd z (by decide), fun z => absurd z (by decide), fun z => absurd z (by decide), fun z => absurd z (by decide), fun z => absurd rfl z⟩
          · refine t_J14_signedHashCode ⟨s.length + 1, ?_⟩
            rw [Int32.zero_add, a6]
            exact k_hash_l a4 a6 a7 (fun i b e => (a8 i b e).1) (endI fun _ _ => ⟨rfl, rfl⟩) s.length 0 (by omega) (by omega)
          · rintro v h2 _ _ ⟨rfl, rfl⟩
            exact endI fun _ _ => ⟨rfl, rfl⟩
        refine useI0 hv ?_
        rintro v h2 _ _ ⟨rfl, rfl⟩
        exact endI fun _ _ => ⟨rfl, rfl⟩
    refine ⟨fun z => absurd z (by decide), fun _ => useI0 key ?_⟩
    rintro v h2 _ _ ⟨rfl, rfl⟩
    refine ⟨fun hz => ⟨a1, by rw [h12]; rfl, ?_⟩, fun hz => ⟨a1, by rw [h12]; rfl, ?_⟩⟩
    · rintro h3 rfl
      exact endI fun _ _ => ⟨rfl, Or.inr ⟨r, s, hs', h12, Or.inl rfl⟩⟩
    · rintro h3 rfl
      exact endI fun _ _ => ⟨rfl, Or.inr ⟨r, s, hs', h12, Or.inr ⟨rfl, hz⟩⟩⟩
/-- the constants -/
def jcon (j : Nat) : List Int32 := (jtxt j).map nI
theorem jcon_chk : ((List.range 345).all fun j => decide (jhash (jcon j) = jhsh j) && (decide ((jtxt j).length < 1000) && (jtxt j).all fun b => decide (b < 128))) = true := by decide +kernel
theorem k_const {D : JD} {h : JH} (hI : JInv D h) {j : Nat} (hj : j < 345) : StR h (jcs D j) (jcon j) := by
  obtain ⟨i1, i2, i3, i4, i5, i6, i7, i8⟩ := hI
  obtain ⟨c1, c2, c3, c4, c5, c6, c7, c8, c9, c10⟩ := i8.2.1 j hj
  have hle := (i8.1 j (by omega)).1
  have o1 := i6 _ hle
  have o2 := i6 _ c7
  have hk := List.all_eq_true.mp jcon_chk j (List.mem_range.mpr hj)
  simp only [Bool.and_eq_true, decide_eq_true_eq, List.all_eq_true] at hk
  obtain ⟨k1, k2, k3⟩ := hk
  have e75 : jfr h 75 (jcs D j) = jfr (jh0 D) 75 (jcs D j) := (o1.2.2.1 75).2.2
  have eln : (jcon j).length = (jtxt j).length := by simp [jcon]
  unfold StR
  rw [e75, o1.1, (o1.2.2.1 76).1, (o1.2.2.1 77).1, (o1.2.2.1 78).1, o2.1, o2.2.1, c2, c3, c4, c5, c8, c9, eln, k1]
  refine ⟨c1, Or.inr rfl, rfl, c6, Or.inl rfl, rfl, by omega, fun i b hb => ?_, Or.inr rfl, ?_, fun _ hz => by rw [if_pos hz]⟩
  · obtain ⟨x, hx, rfl⟩ : ∃ x, (jtxt j)[i]? = some x ∧ nI x = b := by
      simpa [jcon, List.getElem?_map] using hb
    refine ⟨((o2.2.2.2 i).1).trans (c10 i x hx), ?_⟩
    have hx' : x < 128 := k3 x (List.mem_of_getElem? hx)
    have key : ∀ x, x < 128 → (nI x).toInt8.toInt32 = nI x := by decide +kernel
    exact key x hx'
  · by_cases z : jhsh j = 0
    · exact Or.inr ⟨if_pos z, z⟩
    · exact Or.inl (if_neg z)
