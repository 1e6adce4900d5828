/-! the component: SUBSTR, UPPER, LOWER -/
section
variable {D : JD} {h h' h'' hm h0 h1 h2 h3 hb : JH} {ρ : Nat → Nat} {A : List Nod} {E Ec : TEnv} {d sc r x i n f c q lo hi t : Nat} {M : Nat → Prop} {pv : List Val} {grp : List TRow} {R : TRow} {G : TRow → JH → Prop} {wi : Bool} {z : Ex Val} {w : Val}
theorem add_ti {a b : Int64} (h : -(2 ^ 63) ≤ a.toInt + b.toInt ∧ a.toInt + b.toInt < 2 ^ 63) : (a + b).toInt = a.toInt + b.toInt := by
  rw [Int64.toInt_add]
  exact Int.bmod_eq_of_le (by show _ ≤ a.toInt + b.toInt; omega) (by show a.toInt + b.toInt < _; omega)
theorem sub_ti {a b : Int64} (h : -(2 ^ 63) ≤ a.toInt - b.toInt ∧ a.toInt - b.toInt < 2 ^ 63) : (a - b).toInt = a.toInt - b.toInt := by
  rw [Int64.toInt_sub]
  exact Int.bmod_eq_of_le (by show _ ≤ a.toInt - b.toInt; omega) (by show a.toInt - b.toInt < _; omega)
theorem lN_ti {k : Nat} (h : k < 2 ^ 31) : (Int64.ofNat k).toInt = k := Int64.toInt_ofNat_of_lt (by omega)
theorem ti_lN {v : Int64} {k : Nat} (e : v.toInt = k) (h : k < 2 ^ 31) : v = lN k := Int64.toInt_inj.mp (by rw [e]; exact (lN_ti h).symm)
theorem ti_32 {v : Int64} {k : Nat} (e : v.toInt = k) (h : k < 2 ^ 31) : v.toInt32 = nI k := by rw [ti_lN e h]; exact lN_i k
theorem sm_ti {n : Int64} (h : n ≤ sMost ∧ -sMost ≤ n) : -9007199254740991 ≤ n.toInt ∧ n.toInt ≤ 9007199254740991 := by
  have a := Int64.le_iff_toInt_le.mp h.1
  have b := Int64.le_iff_toInt_le.mp h.2
  rw [show sMost.toInt = 9007199254740991 by decide +kernel] at a
  rw [show (-sMost).toInt = -9007199254740991 by decide +kernel] at b
  exact ⟨b, a⟩
theorem rng_eq {α : Type} : ∀ (s : List α) (k lo hi : Nat), ((s.zipIdx k).filter fun q => decide (lo ≤ q.2 ∧ q.2 < hi)).map (·.1) = (s.drop (lo - k)).take (hi - max lo k)
  | [], k, lo, hi => by simp
  | x :: s, k, lo, hi => by
    rw [List.zipIdx_cons, List.filter_cons]
    have ih := rng_eq s (k + 1) lo hi
    by_cases c1 : lo ≤ k
    · have e1 : lo - k = 0 := by omega
      have e2 : max lo k = k := by omega
      have e3 : max lo (k + 1) = k + 1 := by omega
      have e4 : lo - (k + 1) = 0 := by omega
      rw [e3, e4, List.drop_zero] at ih
      rw [e1, e2, List.drop_zero]
      by_cases c2 : k < hi
      · rw [if_pos (by simpa using ⟨c1, c2⟩), List.map_cons, ih]
        obtain ⟨m, rfl⟩ : ∃ m, hi = m + 1 + k := ⟨hi - 1 - k, by omega⟩
        rw [show m + 1 + k - k = m + 1 by omega, show m + 1 + k - (k + 1) = m by omega, List.take_succ_cons]
      · rw [if_neg (by simpa using fun _ => by omega), ih, show hi - k = 0 by omega, show hi - (k + 1) = 0 by omega, List.take_zero, List.take_zero]
    · have e3 : max lo (k + 1) = max lo k := by omega
      rw [if_neg (by simpa using fun z => absurd z c1), ih, e3]
      obtain ⟨m, hm⟩ : ∃ m, lo - k = m + 1 := ⟨lo - k - 1, by omega⟩
      rw [hm, show lo - (k + 1) = m by omega, List.drop_succ_cons]
theorem vPiece_eq {s : Str} {i n : Int64} (ls : s.length ≤ 40) (bi : -9007199254740991 ≤ i.toInt ∧ i.toInt ≤ 9007199254740991) (bn : -9007199254740991 ≤ n.toInt ∧ n.toInt ≤ 9007199254740991) : vPiece s i n = (s.drop (i.toInt - 1).toNat).take ((i.toInt + n.toInt - 1).toNat - (i.toInt - 1).toNat) := by
  have := rng_eq s 0 (i.toInt - 1).toNat (i.toInt + n.toInt - 1).toNat
  rw [Nat.sub_zero, Nat.max_eq_left (Nat.zero_le _)] at this
  rw [← this]
  unfold vPiece
  refine congrArg _ (List.filter_congr fun q hq => ?_)
  obtain ⟨a, b⟩ := q
  have hb := (List.getElem?_eq_some_iff.mp (List.mem_zipIdx_iff_getElem?.mp hq)).1
  have hb : b < s.length := hb
  have e1 : (Int64.ofNat b + 1).toInt = b + 1 := by
    have e0 := lN_ti (k := b) (by omega)
    rw [add_ti (by rw [e0]; show -(2 ^ 63) ≤ (b : Int) + 1 ∧ (b : Int) + 1 < 2 ^ 63; omega), e0]; rfl
  have e2 : (i + n).toInt = i.toInt + n.toInt := add_ti (by omega)
  rw [decide_eq_decide]
  show (i ≤ Int64.ofNat b + 1 ∧ Int64.ofNat b + 1 < i + n) ↔ ((i.toInt - 1).toNat ≤ b ∧ b < (i.toInt + n.toInt - 1).toNat)
  rw [Int64.le_iff_toInt_le, Int64.lt_iff_toInt_lt, e1, e2]
  omega
theorem fin_text {a off n : Nat} {xo xn : Int32} {s : Str} (C : EvC A E Ec ρ pv grp) (S : EvS D A E Ec ρ sc pv G R i h h1) (il : i < A.length) (o0 : ndO (nat_ A i) ≠ 0) (hx : xo = nI off) (hy : xn = nI n) (hs : s.length = n) (hn : n ≤ 100000) (ha : n ≠ 0 → a ≠ 0 ∧ a ≤ jsz h1 ∧ off + n ≤ jln h1 a ∧ jln h1 a < 2 ^ 30 ∧ a ≠ jfr h1 108 (ρ i)) (hsv : ∀ i b, s[i]? = some b → jai h1 a (off + i) = b ∧ jby b) (hal : a = jfr h1 67 (jfr h1 108 (ρ i)) → off = 0) (hz : z = xTxt s) (hd : 8 ≤ d) :
    cX14_text D d (jfr h1 108 (ρ i)) a xo xn h1 (pR D h1 8 (fun v h2 => EQ D A E ρ sc pv i R hb h z (.inl (some (vR 8 v))) h2) (jth (EQ D A E ρ sc pv i R hb h z))) := by
  refine JW.inv fun hI => JW.up (n := 8) (fun y => useR (k_cText (d := y) (S.2.1 i il).2.2.1 hx hy hs hn ha hsv hal) ?_ ?_) hd
  · rintro v h2 hI2 hle ⟨rfl, c0, c1, c2⟩
    exact fin_val C S hI hI2 il o0 hle c1 c2 (hz.trans c0)
  · rintro y h2 hI2 hle ⟨c0, c1, c2⟩
    exact fin_err S ⟨c1, c2⟩ (hz.trans c0)
theorem w_ePiece {va : Nat} {s : Str} {y2 y4 : Int64} (C : EvC A E Ec ρ pv grp) (S : EvS D A E Ec ρ sc pv G R i h h1) (il : i < A.length) (o0 : ndO (nat_ A i) ≠ 0) (ka : Cel D h1 va (vTxt s)) (ne : va ≠ jfr h1 108 (ρ i)) (b2 : y2 ≤ sMost ∧ -sMost ≤ y2) (b4 : y4 ≤ sMost ∧ -sMost ≤ y4) (hz : z = if y4 < 0 then xErr "22011" else xTxt (vPiece s y2 y4)) (hd : 9 ≤ d) :
    cX29_piece D d (ρ i) va y2 y4 h1 (EQ D A E ρ sc pv i R h1 h z) := by
  obtain ⟨e, rfl, he⟩ := dsucc hd
  have nr := S.2.1 i il
  have own := nr.2.2.1
  have ta := ka.tx
  obtain ⟨a1, a2, a3, a4, a5, a6⟩ := ta
  have c2 := sm_ti b2
  have c4 := sm_ti b4
  have pe := vPiece_eq (s := s) a4 c2 c4
  refine JW.inv fun hI => t_X29_piece ⟨fun y => ?_, fun y => ?_⟩
  · have y := (cmp_ge _ _).mp y
    rw [if_neg y] at hz
    have y : 0 ≤ y4.toInt := Int.not_lt.mp fun q => y (Int64.lt_iff_toInt_lt.mpr q)
    refine JW.up (n := 1) (fun y => useL0 (k_maxL (d := y)) ?_) (by omega)
    rintro v3 h3 hI3 _ ⟨rfl, he3⟩
    have he3 := he3.symm
    subst he3
    have ef : (if y2 < 1 then (1 : Int64) else y2).toInt = ((y2.toInt - 1).toNat : Int) + 1 := by
      by_cases q : y2 < 1
      · have q' : y2.toInt < 1 := Int64.lt_iff_toInt_lt.mp q
        rw [if_pos q, show (1 : Int64).toInt = 1 from rfl]; omega
      · have q' : ¬ y2.toInt < 1 := fun k => q (Int64.lt_iff_toInt_lt.mpr k)
        rw [if_neg q]; omega
    generalize (if y2 < 1 then (1 : Int64) else y2) = fm at ef ⊢
    refine ⟨a1, JW.up (n := 1) (fun y => useI0 (k_cSize (d := y) a1) ?_) (by omega)⟩
    rintro v4 h4 hI4 _ ⟨rfl, he4⟩
    have he4 := he4.symm
    subst he4
    rw [a5, nI_l (by omega)]
    refine JW.up (n := 1) (fun y => useL0 (k_minL (d := y)) ?_) (by omega)
    rintro v5 h5 hI5 _ ⟨rfl, he5⟩
    have he5 := he5.symm
    subst he5
    have el : (lN s.length + 1).toInt = s.length + 1 := by
      have e0 : (lN s.length).toInt = s.length := lN_ti (by omega)
      rw [add_ti (by rw [e0]; show -(2 ^ 63) ≤ (s.length : Int) + 1 ∧ (s.length : Int) + 1 < 2 ^ 63; omega), e0]; rfl
    have es : (y2 + y4).toInt = y2.toInt + y4.toInt := add_ti (by omega)
    have et : (if lN s.length + 1 < y2 + y4 then lN s.length + 1 else y2 + y4).toInt = min (y2.toInt + y4.toInt) (s.length + 1) := by
      by_cases q : lN s.length + 1 < y2 + y4
      · have q' := Int64.lt_iff_toInt_lt.mp q
        rw [if_pos q, el]; omega
      · have q' : ¬ _ := fun k => q (Int64.lt_iff_toInt_lt.mpr k)
        rw [if_neg q, es]; omega
    generalize (if lN s.length + 1 < y2 + y4 then lN s.length + 1 else y2 + y4) = tl at et ⊢
    have txl : jfr h1 67 va ≤ jsz h1 := hI.refl
    have tne : jfr h1 67 va ≠ jfr h1 108 (ρ i) := fun q => by
      have k1 := ka.1.2.2.2.2.resolve_left a2
      have k2 := own.kd
      rw [q] at k1
      omega
    have tx : jfr h1 67 va ≠ jfr h1 67 (jfr h1 108 (ρ i)) := fun q => ne (S.2.2.1.tx _ _ q a2)
    refine ⟨fun g => ?_, fun g => ?_⟩
    · have g := Int64.lt_iff_toInt_lt.mp ((cmp_gt _ _).mp g)
      refine ⟨nr.1, JW.up (n := 1) (fun y => useR0 (k_cBytes (d := y) a1) ?_) (by omega)⟩
      rintro v6 h6 hI6 _ ⟨rfl, he6⟩
      have he6 := he6.symm
      subst he6
      refine ⟨own.1, fin_text (off := (y2.toInt - 1).toNat) (n := min (y2.toInt + y4.toInt - 1).toNat s.length - (y2.toInt - 1).toNat) (s := vPiece s y2 y4) C S il o0 ?_ ?_ ?_ (by omega) (fun _ => ⟨a2, txl, by omega, by omega, tne⟩) ?_ (fun q => absurd q tx) hz (by omega)⟩
      · rw [ti_32 (k := (y2.toInt - 1).toNat + 1) (by rw [ef]; rfl) (by omega)]
        exact nI_pred _
      · exact ti_32 (by rw [sub_ti (by omega), ef, et]; omega) (by omega)
      · rw [pe, List.length_take, List.length_drop]; omega
      · intro j b hb
        rw [pe, List.getElem?_take] at hb
        by_cases q : j < (y2.toInt + y4.toInt - 1).toNat - (y2.toInt - 1).toNat
        · rw [if_pos q, List.getElem?_drop] at hb
          exact a6 _ _ hb
        · rw [if_neg q] at hb
          cases hb
    · have g : ¬ _ := fun k => g ((cmp_gt _ _).mpr (Int64.lt_iff_toInt_lt.mpr k))
      have pn : vPiece s y2 y4 = [] := by
        rw [pe]
        refine List.eq_nil_of_length_eq_zero ?_
        rw [List.length_take, List.length_drop]
        omega
      refine ⟨nr.1, JW.up (n := 1) (fun y => useR0 (k_cBytes (d := y) a1) ?_) (by omega)⟩
      rintro v6 h6 hI6 _ ⟨rfl, he6⟩
      have he6 := he6.symm
      subst he6
      rw [pn] at hz
      exact ⟨own.1, fin_text (off := 0) (n := 0) (s := []) C S il o0 rfl rfl rfl (by omega) (fun q => absurd rfl q) (fun j b hb => by simp at hb) (fun _ => rfl) hz (by omega)⟩
  · have y := Classical.not_not.mp fun q => y ((cmp_ge _ _).mpr q)
    rw [if_pos y] at hz
    exact fin_fault (w := "22011") S ⟨by decide, by decide +kernel⟩ hz (by omega)
/-- one character of an own cell is written -/
theorem Cel.put {s : Str} {k : Nat} {b : Int32} (kc : Cel D h c (vTxt s)) (hk : k < s.length) (hb : jby b) : Cel D (wai h (jfr h 67 c) k b) c (vTxt (s.set k b)) := by
  have tc := kc.tx
  obtain ⟨a1, a2, a3, a4, a5, a6⟩ := tc
  obtain ⟨⟨w1, w2, w3, w4, w5⟩, k2⟩ := kc
  have w5 := w5.resolve_left a2
  have j65 : jfi h 65 c = 0 ∧ jfr h 64 c = tyc D 25 := by
    rcases k2 with ⟨e, _⟩ | ⟨x, y, _⟩
    · cases e
    · exact ⟨x, y⟩
  have ea : ∀ j, jai (wai h (jfr h 67 c) k b) (jfr h 67 c) j = if j = k then b else jai h (jfr h 67 c) j := fun j => by
    rw [jai_wai]
    by_cases q : j = k
    · rw [if_pos q, if_pos ⟨rfl, q⟩]
    · rw [if_neg q, if_neg (fun p => q p.2)]
  refine ⟨⟨w1, w2, w3, w4, Or.inr ⟨w5.1, w5.2.1, fun j hj => ?_⟩⟩, Or.inr ⟨j65.1, j65.2, Or.inr (Or.inr ⟨s.set k b, rfl, a2, by rw [List.length_set]; exact a4, by rw [List.length_set]; exact a5, fun j x hx => ?_⟩)⟩⟩
  · show jby (jai (wai h (jfr h 67 c) k b) (jfr h 67 c) j)
    rw [ea]
    split
    · exact hb
    · exact w5.2.2 j hj
  · show jai (wai h (jfr h 67 c) k b) (jfr h 67 c) j = x ∧ jby x
    rw [ea]
    rw [List.getElem?_set] at hx
    by_cases q : k = j
    · rw [if_pos q, if_pos (by omega)] at hx
      cases hx
      rw [if_pos q.symm]
      exact ⟨rfl, hb⟩
    · rw [if_neg q] at hx
      rw [if_neg (fun p => q p.symm)]
      exact a6 j x hx
def cs1 (up : Bool) (x : Int32) : Int32 := if up = true then (if (97 ≤ x && x ≤ 122) = true then x - 32 else x) else (if (65 ≤ x && x ≤ 90) = true then x + 32 else x)
theorem cs_step {s : Str} {up : Bool} {k : Nat} (hk : k < s.length) : (((vCased up s).take k ++ s.drop k).set k (cs1 up s[k])) = (vCased up s).take (k + 1) ++ s.drop (k + 1) := by
  have lc : (vCased up s).length = s.length := by unfold vCased; exact List.length_map ..
  have lt : ((vCased up s).take k).length = k := by rw [List.length_take]; omega
  rw [List.set_append_right _ _ (by omega), lt, Nat.sub_self, List.drop_eq_getElem_cons hk, List.set_cons_zero, List.take_succ_eq_append_getElem (by omega), List.append_assoc]
  congr 1
  show _ = [(vCased up s)[k]] ++ _
  have : (vCased up s)[k]'(by omega) = cs1 up s[k] := by
    unfold vCased cs1
    rw [List.getElem_map]
  rw [this]; rfl
theorem w_casedL {s : Str} {up : Bool} {vt : Nat} {Q : JO → JH → Prop} (o1 : CelW D h1 (jfr h1 108 (ρ i))) (ri : ρ i ≠ 0) (hs : ∀ c ∈ s, jby c) (hd : 1 ≤ d) (hQ : ∀ h2, JInv D h2 → jle h1 h2 → Cel D h2 (jfr h1 108 (ρ i)) (vTxt (vCased up s)) → CelF h1 h2 (jfr h1 108 (ρ i)) → Q (.inl (some (vR 8 (jfr h1 108 (ρ i))))) h2) :
    ∀ (m k : Nat) (h2 : JH), jle h1 h2 → k + m = s.length → Cel D h2 (jfr h1 108 (ρ i)) (vTxt ((vCased up s).take k ++ s.drop k)) → vt = jfr h2 67 (jfr h1 108 (ρ i)) → CelF h1 h2 (jfr h1 108 (ρ i)) →
    L_X29_cased_20 D d Q (m + 1) (ρ i) (if up = true then 1 else 0) vt (nI k) h2
  | m, k, h2, hle, hkm, kc, hv, cf => by
    have lc : (vCased up s).length = s.length := by unfold vCased; exact List.length_map ..
    obtain ⟨a1, a2, a3, a4, a5, a6⟩ := kc.tx
    have ln : ((vCased up s).take k ++ s.drop k).length = s.length := by rw [List.length_append, List.length_take, List.length_drop]; omega
    rw [ln] at a4 a5
    have e8 : jfr h2 108 (ρ i) = jfr h1 108 (ρ i) := cf.2.2.2.2.2.2.2 108 _ (by decide) (by decide)
    refine ⟨ri, by rw [e8]; exact a1, ?_⟩
    rw [e8]
    refine JW.up (n := 1) (fun y => useI0 (k_cSize (d := y) a1) ?_) hd
    rintro v4 h4 hI4 _ ⟨rfl, he4⟩
    have he4 := he4.symm
    subst he4
    rw [a5]
    refine ⟨fun y => ?_, fun y => ?_⟩
    · have y := (nI_leI (by omega) (by omega)).mp y
      rw [List.take_of_length_le (by omega), List.drop_eq_nil_of_le (by omega), List.append_nil] at kc
      rw [e8]
      exact hQ h2 hI4 hle kc cf
    · have kl : k < s.length := Nat.lt_of_not_le fun z => y ((nI_leI (by omega) (by omega)).mpr z)
      obtain ⟨m', rfl⟩ : ∃ m', m = m' + 1 := ⟨m - 1, by omega⟩
      have ek : ((vCased up s).take k ++ s.drop k)[k]? = some s[k] := by
        rw [List.getElem?_append_right (by rw [List.length_take]; omega), List.length_take, show k - min k (vCased up s).length = 0 by omega, List.getElem?_drop, Nat.add_zero, List.getElem?_eq_getElem kl]
      have bk := (a6 k s[k] ek)
      have jn : jin (nI k) (jln h2 vt) := by rw [hv, a3]; exact jin_nI (by omega) (by decide)
      have v0 : vt ≠ 0 := by rw [hv]; exact a2
      have ix : ixn (nI k) = k := ixn_nI (by omega)
      have stay : cs1 up s[k] = s[k] → W_X29_cased_99 D d Q (L_X29_cased_20 D d Q (m' + 1)) (ρ i) (if up = true then 1 else 0) vt (nI k) h2 := fun e => by
        have st := cs_step (up := up) kl
        rw [e] at st
        have kc' := kc
        rw [show (vCased up s).take k ++ s.drop k = (vCased up s).take (k + 1) ++ s.drop (k + 1) by
          rw [← st]
          refine (List.ext_getElem? fun j => ?_)
          rw [List.getElem?_set]
          by_cases q : k = j
          · rw [if_pos q, if_pos (by omega), ← q, ek]
          · rw [if_neg q]] at kc'
        have := w_casedL o1 ri hs hd hQ m' (k + 1) h2 hle (by omega) kc' hv cf
        unfold W_X29_cased_99
        rw [nI_1]
        exact this
      have put : ∀ (b : Int32) (h3 : JH), b = cs1 up s[k] → jby b → h3 = wai h2 vt k ((Int32.toInt8 ((Int32.toInt8 b).toInt32)).toInt32) → W_X29_cased_99 D d Q (L_X29_cased_20 D d Q (m' + 1)) (ρ i) (if up = true then 1 else 0) vt (nI k) h3 := fun b h3 e hb e3 => by
        have bb : (Int32.toInt8 ((Int32.toInt8 b).toInt32)).toInt32 = b := by
          have hb' : (Int32.toInt8 b).toInt32 = b := hb
          rw [hb', hb']
        rw [bb, hv] at e3
        subst e3
        have kp := kc.put (k := k) (b := b) (by rw [ln]; exact kl) hb
        rw [e, cs_step kl, ← e] at kp
        have cf2 : CelF h2 (wai h2 (jfr h2 67 (jfr h1 108 (ρ i))) k b) (jfr h1 108 (ρ i)) := CelF.ai b
        have := w_casedL o1 ri hs hd hQ m' (k + 1) (wai h2 (jfr h2 67 (jfr h1 108 (ρ i))) k b) hle (by omega) kp hv (cf.tr cf2)
        unfold W_X29_cased_99
        rw [nI_1]
        exact this
      have hx := bk.2
      cases up with
      | true =>
        have lo : ¬ (97 ≤ s[k] ∧ s[k] ≤ 122) → W_X29_cased_67 D d Q (L_X29_cased_20 D d Q (m' + 1)) (ρ i) (if true = true then 1 else 0) vt (nI k) h2 := fun g =>
          ⟨fun _ => stay (by unfold cs1; rw [if_pos rfl, if_neg (by simpa using g)]), fun q => absurd q (by decide)⟩
        refine ⟨fun q => absurd q (by decide), fun _ => ⟨v0, jn, ?_⟩⟩
        rw [ix, hv, bk.1, ← hv]
        refine ⟨fun g => lo fun q => ?_, fun g => ⟨jn, fun g2 => lo fun q => ?_, fun g2 => ⟨jn, jn, fun h3 e3 => ?_⟩⟩⟩
        · exact absurd g (Int32.not_lt.mpr q.1)
        · exact absurd g2 (Int32.not_lt.mpr q.2)
        · have c1 : (97 ≤ s[k] && s[k] ≤ 122) = true := by simpa using ⟨Int32.not_lt.mp g, Int32.not_lt.mp g2⟩
          exact put (s[k] - 32) h3 (by unfold cs1; rw [if_pos rfl, if_pos c1]) (cased_by1 _ hx c1) e3
      | false =>
        refine ⟨fun _ => ⟨fun q => absurd rfl q, fun _ => ⟨v0, jn, ?_⟩⟩, fun q => absurd rfl q⟩
        rw [ix, hv, bk.1]
        have lo : ¬ (65 ≤ s[k] ∧ s[k] ≤ 90) → cs1 false s[k] = s[k] := fun g => by unfold cs1; rw [if_neg (by decide), if_neg (by simpa using g)]
        rw [← hv]
        refine ⟨fun g => stay (lo fun q => ?_), fun g => ⟨jn, fun g2 => stay (lo fun q => ?_), fun g2 => ⟨jn, jn, fun h3 e3 => ?_⟩⟩⟩
        · exact absurd g (Int32.not_lt.mpr q.1)
        · exact absurd g2 (Int32.not_lt.mpr q.2)
        · have c1 : (65 ≤ s[k] && s[k] ≤ 90) = true := by simpa using ⟨Int32.not_lt.mp g, Int32.not_lt.mp g2⟩
          exact put (s[k] + 32) h3 (by unfold cs1; rw [if_neg (by decide), if_pos c1]) (cased_by2 _ hx c1) e3
theorem w_eCased {va : Nat} {s : Str} {up : Bool} (C : EvC A E Ec ρ pv grp) (S : EvS D A E Ec ρ sc pv G R i h h1) (il : i < A.length) (o0 : ndO (nat_ A i) ≠ 0) (ka : Cel D h1 va (vTxt s)) (hz : z = xTxt (vCased up s)) (hs : ∀ c ∈ s, jby c) (hd : 10 ≤ d) :
    cX29_cased D d (ρ i) va (if up = true then 1 else 0) h1 (EQ D A E ρ sc pv i R h1 h z) := by
  obtain ⟨e, rfl, he⟩ := dsucc hd
  have nr := S.2.1 i il
  have own := nr.2.2.1
  have a4 := ka.tx.2.2.2.1
  have lc : (vCased up s).length = s.length := by unfold vCased; exact List.length_map ..
  refine JW.inv fun hI => t_X29_cased ⟨nr.1, own.1, JW.up (n := 9) (fun y => useR0 (k_cCopy (d := y) own ka S.2.2.1.tx) ?_) (by omega)⟩
  rintro v2 h2 hI2 hle ⟨rfl, c1, c2⟩
  have e8 : jfr h2 108 (ρ i) = jfr h1 108 (ρ i) := c2.2.2.2.2.2.2.2 108 _ (by decide) (by decide)
  rw [e8]
  refine ⟨own.1, JW.up (n := 1) (fun y => useR0 (k_cBytes (d := y) own.1) ?_) (by omega)⟩
  rintro v6 h6 hI6 _ ⟨rfl, he6⟩
  have he6 := he6.symm
  subst he6
  refine ⟨s.length + 1, w_casedL own nr.1 hs (by omega) ?_ s.length 0 h2 hle (by omega) (by rw [List.take_zero, List.drop_zero, List.nil_append]; exact c1) rfl c2⟩
  intro h3 hI3 hle3 k3 f3
  exact fin_val C S hI hI3 il o0 hle3 k3 f3 (by rw [hz]; unfold xTxt; rw [if_pos (by omega)])
end
