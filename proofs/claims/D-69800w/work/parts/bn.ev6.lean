/-! the component: pairs are worked out -/
section
variable {D : JD} {h h' h'' hm h0 h1 h2 h3 hb : JH} {ρ : Nat → Nat} {A : List Nod} {E Ec : TEnv} {d sc r x i n f c q lo hi t : Nat} {M : Nat → Prop} {pv : List Val} {grp : List TRow} {R : TRow} {G : TRow → JH → Prop} {wi : Bool} {z : Ex Val} {w : Val}
theorem EQ.in {Mm : JM} {pc : Nat} {ls : List (Option JV)} {st : List JV} (k : JW D d Mm pc ls st h1 (EQ D A E ρ sc pv i R h1 h z)) : JW D d Mm pc ls st h1 (pR D h1 8 (fun v h2 => EQ D A E ρ sc pv i R hb h z (.inl (some (vR 8 v))) h2) (jth (EQ D A E ρ sc pv i R hb h z))) :=
  useR k (fun v h2 _ _ z => endR fun _ _ _ => z) (fun y h2 _ _ z => endX fun _ _ => z)
theorem fin_join {va vb : Nat} {s u : Str} (C : EvC A E Ec ρ pv grp) (S : EvS D A E Ec ρ sc pv G R i h h1) (il : i < A.length) (o : ndO (nat_ A i) ≠ 0) (ka : Cel D h1 va (vTxt s)) (kb : Cel D h1 vb (vTxt u)) (na : va ≠ jfr h1 108 (ρ i)) (nb : vb ≠ jfr h1 108 (ρ i)) (hl : s.length + u.length ≤ 40) (hz : z = .ok (vTxt (s ++ u))) (hd : 2 ≤ d) : cX14_join D d (jfr h1 108 (ρ i)) va vb h1 (pR D h1 8 (fun v h2 => EQ D A E ρ sc pv i R hb h z (.inl (some (vR 8 v))) h2) (jth (EQ D A E ρ sc pv i R hb h z))) := by
  refine JW.inv fun hI => useR0 (w_cJoin S.2.2.1.tx (S.2.1 i il).2.2.1 ka kb na nb hl hd) ?_
  rintro v h2 hI2 hle ⟨rfl, c1, c2⟩
  exact fin_val C S hI hI2 il o hle c1 c2 hz
theorem fin_fault {j : Nat} {w : String} (S : EvS D A E Ec ρ sc pv G R i h h1) (hj : j < 345 ∧ jcon j = sStr w) (hz : z = .error (sStr w)) (hd : 7 ≤ d) : cX1_fault D d (jcs D j) h1 (pR D h1 9 (fun v h2 => v ≠ 0 ∧ (EQ D A E ρ sc pv i R hb h z (.inr v) h2)) (jth (EQ D A E ρ sc pv i R hb h z))) := by
  refine useR0 (w_fault hj hd) ?_
  rintro v h2 hI2 hle ⟨y1, y2⟩
  exact ⟨y1, fin_err S y2 hz⟩
theorem w_joined {va vb : Nat} {s u : Str} (C : EvC A E Ec ρ pv grp) (S : EvS D A E Ec ρ sc pv G R i h h1) (il : i < A.length) (o : ndO (nat_ A i) ≠ 0) (ka : Cel D h1 va (vTxt s)) (kb : Cel D h1 vb (vTxt u)) (na : va ≠ jfr h1 108 (ρ i)) (nb : vb ≠ jfr h1 108 (ρ i)) (hz : z = xTxt (s ++ u)) (hd : 8 ≤ d) : cX33_joined D d (ρ i) va vb h1 (pR D h1 8 (fun v h2 => EQ D A E ρ sc pv i R hb h z (.inl (some (vR 8 v))) h2) (jth (EQ D A E ρ sc pv i R hb h z))) := by
  obtain ⟨e, rfl, he⟩ := dsucc hd
  have ta := ka.tx
  have tb := kb.tx
  have nr := S.2.1 i il
  have la := ta.2.2.2.1
  have lb := tb.2.2.2.1
  refine EQ.in (hb := hb) ?_
  · refine t_X33_joined ⟨ta.1, JW.up (n := 1) (fun y => useI0 (k_cSize (d := y) ta.1) ?_) (by omega)⟩
    rintro v2 h2 hI2 _ ⟨rfl, he2⟩
    have he2 := he2.symm
    subst he2
    refine ⟨tb.1, JW.up (n := 1) (fun y => useI0 (k_cSize (d := y) tb.1) ?_) (by omega)⟩
    rintro v3 h3 hI3 _ ⟨rfl, he3⟩
    have he3 := he3.symm
    subst he3
    rw [ta.2.2.2.2.1, tb.2.2.2.2.1, nI_add]
    have e40 : (40 : Int32) = nI 40 := rfl
    rw [e40]
    refine ⟨fun y => ?_, fun y => ?_⟩
    · have y := (nI_leI (by omega) (by omega)).mp y
      refine ⟨nr.1, nr.2.2.1.1, fin_join C S il o ka kb na nb y ?_ (by omega)⟩
      rw [hz]; unfold xTxt; rw [if_pos (by rw [List.length_append]; exact y)]
    · have y : ¬ s.length + u.length ≤ 40 := fun b => y ((nI_leI (by omega) (by omega)).mpr b)
      refine fin_fault (w := "22001") S ⟨by decide, by decide +kernel⟩ ?_ (by omega)
      rw [hz]; unfold xTxt; rw [if_neg (by rw [List.length_append]; exact y)]; rfl

theorem w_times {a b : Int64} (C : EvC A E Ec ρ pv grp) (S : EvS D A E Ec ρ sc pv G R i h h1) (il : i < A.length) (o : ndO (nat_ A i) ≠ 0) (hz : z = if (a == 0 || sAbs b ≤ sMost / sAbs a) = true then xNum (a * b) else xErr "22003") (hd : 9 ≤ d) : cX33_times D d (ρ i) a b h1 (pR D h1 8 (fun v h2 => EQ D A E ρ sc pv i R hb h z (.inl (some (vR 8 v))) h2) (jth (EQ D A E ρ sc pv i R hb h z))) := by
  obtain ⟨e, rfl, he⟩ := dsucc hd
  have nr := S.2.1 i il
  refine EQ.in (hb := hb) ?_
  have fin : z = xNum (a * b) → W_X33_times_33 D e (EQ D A E ρ sc pv i R h1 h z) (ρ i) a b h1 := fun y => ⟨nr.1, nr.2.2.1.1, fin_number C S il o y (by omega)⟩
  refine t_X33_times (JW.up (n := 1) (fun y => useL0 (k_abs (d := y)) ?_) (by omega))
  rintro v2 h2 hI2 _ ⟨rfl, he2⟩
  have he2 := he2.symm
  subst he2
  have a0 : sAbs a = 0 ↔ a = 0 := by
    unfold sAbs
    split
    · refine ⟨fun y => ?_, fun y => by rw [y]; rfl⟩
      have := congrArg (fun x => -x) y
      simpa using this
    · exact Iff.rfl
  rw [show (if a < 0 then -a else a) = sAbs a from rfl, cmp_eq]
  refine ⟨fun y => fin ?_, fun y => JW.up (n := 1) (fun b' => useL0 (k_abs (d := b')) ?_) (by omega)⟩
  · rw [hz, if_pos (by rw [a0.mp y]; rfl)]
  · rintro v3 h3 hI3 _ ⟨rfl, he3⟩
    have he3 := he3.symm
    subst he3
    rw [show (if b < 0 then -b else b) = sAbs b from rfl, cmp_le, show (9007199254740991 : Int64) = sMost from rfl]
    have a1 : (a == 0) = false := by simpa using fun z => y (a0.mpr z)
    refine ⟨y, fun x => fin ?_, fun x => fin_fault (w := "22003") S ⟨by decide, by decide +kernel⟩ ?_ (by omega)⟩
    · rw [hz, a1, Bool.false_or, if_pos (by simpa using Int64.not_lt.mp x)]
    · have x := Classical.not_not.mp x
      rw [hz, a1, Bool.false_or, if_neg (by simpa using x)]; rfl
theorem w_divisor {m : Int64} (k : Cel D h1 c (vNum m)) (hd : 8 ≤ d) : cX33_divisor D d c h1 (pL D h1 (fun v h2 => v = m ∧ m ≠ 0 ∧ h2 = h1) (fun y h2 => m = 0 ∧ Flt h1 h2 y (sStr "22012"))) := by
  obtain ⟨e, rfl, he⟩ := dsucc hd
  refine t_X33_divisor ⟨k.1.1, JW.up (n := 1) (fun y => useL0 (k_cNum (d := y) k.1.1) ?_) (by omega)⟩
  rintro v2 h2 hI2 _ ⟨rfl, he2⟩
  have he2 := he2.symm
  subst he2
  rw [k.num, cmp_eq]
  refine ⟨fun y => JW.up (n := 1) (fun x => useL0 (k_cNum (d := x) k.1.1) ?_) (by omega), fun y => useR0 (w_fault (w := "22012") ⟨by decide, by decide +kernel⟩ (by omega)) ?_⟩
  · rintro v3 h3 hI3 _ ⟨rfl, he3⟩
    have he3 := he3.symm
    subst he3
    rw [k.num]
    exact endL fun _ _ => ⟨rfl, y, rfl⟩
  · rintro v h3 _ _ ⟨y1, y2⟩
    exact ⟨y1, fun _ _ => ⟨y, y2⟩⟩

theorem sgn.gt {x : Int32} {c : Int} (k : sgn x c) : 0 < x ↔ 0 < c := by
  have a : 0 < x ↔ ¬ x < 0 ∧ ¬ x = 0 := by
    rw [Int32.lt_iff_toInt_lt, Int32.lt_iff_toInt_lt, ← Int32.toInt_inj]
    show (0 : Int) < _ ↔ ¬ _ < (0 : Int) ∧ ¬ _ = (0 : Int)
    omega
  rw [a, k.1, k.2]
  omega
theorem sgn.le {x : Int32} {c : Int} (k : sgn x c) : x ≤ 0 ↔ c ≤ 0 := by
  rw [← Int32.not_lt, k.gt]; omega
theorem sgn.ge {x : Int32} {c : Int} (k : sgn x c) : 0 ≤ x ↔ 0 ≤ c := by
  rw [← Int32.not_lt, k.1]; omega
/-- the value of a pair of two values -/
def prV (o k : Nat) (a b : Val) : Ex Val := if o = 6 then .ok (if (a.1 == 0 || b.1 == 0) = true then vNull else vBool (vLike a.2.2 b.2.2)) else if o = 9 then .ok (vTold k a b) else vWorked k a b
theorem prV_null {o k : Nat} {a b : Val} (hn : a.1 = 0 ∨ b.1 = 0) : prV o k a b = .ok vNull := by
  have hn : (a.1 == 0 || b.1 == 0) = true := by simpa using hn
  unfold prV vTold vWorked
  rw [if_pos hn, if_pos hn, if_pos hn]
  split
  · rfl
  · split <;> rfl
theorem told_ok {k : Nat} {a b : Val} (hn : ¬ (a.1 = 0 ∨ b.1 = 0)) : vTold k a b = vBool (match k with
    | 0 => vCmp a b == 0
    | 1 => vCmp a b != 0
    | 2 => vCmp a b < 0
    | 3 => vCmp a b ≤ 0
    | 4 => 0 < vCmp a b
    | _ => 0 ≤ vCmp a b) := by
  have hn : ¬ (a.1 == 0 || b.1 == 0) = true := by simpa using hn
  unfold vTold
  rw [if_neg hn]
  rfl
theorem worked_ok {k : Nat} {a b : Val} (hn : ¬ (a.1 = 0 ∨ b.1 = 0)) : vWorked k a b = (match k with
    | 0 => xNum (a.2.1 + b.2.1)
    | 1 => xNum (a.2.1 - b.2.1)
    | 2 => if a.2.1 == 0 || sAbs b.2.1 ≤ sMost / sAbs a.2.1 then xNum (a.2.1 * b.2.1) else xErr "22003"
    | 3 => if b.2.1 == 0 then xErr "22012" else xNum (a.2.1 / b.2.1)
    | 4 => if b.2.1 == 0 then xErr "22012" else xNum (a.2.1 - a.2.1 / b.2.1 * b.2.1)
    | _ => xTxt (a.2.2 ++ b.2.2)) := by
  have hn : ¬ (a.1 == 0 || b.1 == 0) = true := by simpa using hn
  unfold vWorked
  rw [if_neg hn]
  rfl
theorem w_pair43 {va vb k : Nat} {a b : Val} (C : EvC A E Ec ρ pv grp) (hI : JInv D h1) (S : EvS D A E Ec ρ sc pv G R i h h1) (il : i < A.length) (o : ndO (nat_ A i) = 6 ∨ ndO (nat_ A i) = 9 ∨ ndO (nat_ A i) = 14) (ek : ndK (nat_ A i) = k) (k5 : ndO (nat_ A i) ≠ 6 → k ≤ 5) (ka : Cel D h1 va a) (kb : Cel D h1 vb b) (na : va ≠ jfr h1 108 (ρ i)) (nb : vb ≠ jfr h1 108 (ρ i))
    (t6 : (ndO (nat_ A i) = 6 ∨ ndO (nat_ A i) = 14 ∧ k = 5) → VT 25 a ∧ VT 25 b) (t9 : ndO (nat_ A i) = 9 → a.1 = b.1 ∨ a.1 = 0 ∨ b.1 = 0) (t14 : ndO (nat_ A i) = 14 → k ≠ 5 → VT 20 a ∧ VT 20 b) (hz : z = prV (ndO (nat_ A i)) k a b) (hd : 10 ≤ d) : W_X33_at_43 D d (EQ D A E ρ sc pv i R hb h z) (ρ i) va vb h1 := by
  have nr := S.2.1 i il
  have own := nr.2.2.1.1
  have f7 := (nr.2.2.2.2.2.2.2.2.2.2.1 (by omega)).1
  have no : (a.1 = 0 ∨ b.1 = 0) → W_X33_at_58 D d (EQ D A E ρ sc pv i R hb h z) (ρ i) h1 := fun y => ⟨nr.1, own, fin_none C S il (by omega) (hz.trans (prV_null y)) (by omega)⟩
  refine ⟨ka.1.1, JW.up (n := 1) (fun y => useI0 (k_cEmpty (d := y) ka) ?_) (by omega)⟩
  rintro v2 h2 hI2 _ ⟨rfl, he2⟩
  have he2 := he2.symm
  subst he2
  by_cases az : a.1 = 0
  · rw [if_pos az]
    exact ⟨fun _ => no (Or.inl az), fun y => absurd y (by decide)⟩
  rw [if_neg az]
  refine ⟨fun y => absurd rfl y, fun _ => ⟨kb.1.1, JW.up (n := 1) (fun y => useI0 (k_cEmpty (d := y) kb) ?_) (by omega)⟩⟩
  rintro v3 h3 hI3 _ ⟨rfl, he3⟩
  have he3 := he3.symm
  subst he3
  by_cases bz : b.1 = 0
  · rw [if_pos bz]
    exact ⟨fun y => absurd y (by decide), fun _ => no (Or.inr bz)⟩
  rw [if_neg bz]
  have nn : ¬ (a.1 = 0 ∨ b.1 = 0) := by omega
  have nnb : ¬ (a.1 == 0 || b.1 == 0) = true := by simpa using nn
  refine ⟨fun _ => ⟨nr.1, ?_⟩, fun y => absurd rfl y⟩
  have trt : ∀ (x : Int32) (q : Bool), z = .ok (vBool q) → (decide (x ≠ 0)) = q → jfr h1 108 (ρ i) ≠ 0 ∧ (cX14_truth D d (jfr h1 108 (ρ i)) x h1 (pR D h1 8 (fun v h2 => EQ D A E ρ sc pv i R hb h z (.inl (some (vR 8 v))) h2) (jth (EQ D A E ρ sc pv i R hb h z)))) := fun x q e1 e2 => ⟨own, fin_truth C S il (by omega) (by rw [e1, ← e2]) (by omega)⟩
  have num : ∀ {Q : Int64 → Int64 → JH → Prop} {X : Nat → JH → Prop} (m m' : Int64), a = vNum m → b = vNum m' → Q m m' h1 → cX14_number_2 D d va h1 (pL D h1 (fun x h2 => cX14_number_2 D d vb h2 (pL D h2 (fun y h3 => Q x y h3) X)) X) := fun {Q X} m m' e1 e2 hQ => by
    subst e1 e2
    refine JW.up (n := 1) (fun y => useL0 (k_cNum (d := y) ka.1.1) ?_) (by omega)
    rintro v5 h5 hI5 _ ⟨rfl, he5⟩
    have he5 := he5.symm
    subst he5
    refine JW.up (n := 1) (fun y => useL0 (k_cNum (d := y) kb.1.1) ?_) (by omega)
    rintro v6 h6 hI6 _ ⟨rfl, he6⟩
    have he6 := he6.symm
    subst he6
    rw [ka.num, kb.num]
    exact hQ
  have div : ∀ {Q : Int64 → Int64 → JH → Prop} (m m' : Int64), a = vNum m → b = vNum m' → (m' = 0 → z = xErr "22012") → (m' ≠ 0 → Q m m' h1) → cX14_number_2 D d va h1 (pL D h1 (fun x h2 => cX33_divisor D d vb h2 (pL D h2 (fun y h3 => Q x y h3) (jth (EQ D A E ρ sc pv i R hb h z)))) (jth (EQ D A E ρ sc pv i R hb h z))) := fun {Q} m m' e1 e2 hE hQ => by
    subst e1 e2
    refine JW.up (n := 1) (fun y => useL0 (k_cNum (d := y) ka.1.1) ?_) (by omega)
    rintro v5 h5 hI5 _ ⟨rfl, he5⟩
    have he5 := he5.symm
    subst he5
    refine useL (w_divisor kb (by omega)) ?_ ?_
    · rintro v6 h6 hI6 _ ⟨rfl, m0, he6⟩
      have he6 := he6.symm
      subst he6
      rw [ka.num]
      exact hQ m0
    · rintro y h6 hI6 _ ⟨m0, x6⟩
      exact fin_err S x6 (hE m0)
  have ord : ∀ {Q : Int32 → JH → Prop} {X : Nat → JH → Prop}, a.1 = b.1 → (∀ x, sgn x (vCmp a b) → Q x h1) → cX14_order D d va vb h1 (pI D h1 Q X) := fun {Q X} et hQ => by
    refine JW.up (n := 2) (fun y => useI0 (k_order (d := y) ka kb az et) ?_) (by omega)
    rintro v5 h5 hI5 _ ⟨x5, he5⟩
    have he5 := he5.symm
    subst he5
    exact hQ _ x5
  rcases o with o | o | o
  · rw [show opN (nat_ A i) = 370 by unfold opN; rw [o]; rfl] at f7
    rw [f7]
    refine ⟨cst0 hI (by decide), useI0 (w_ord (j := 370) (by decide) (by omega)) ?_⟩
    rintro v4 h4 hI4 _ ⟨rfl, he4⟩
    have he4 := he4.symm
    subst he4
    refine ⟨fun y => absurd y (by decide), fun y => absurd y (by decide), fun y => absurd y (by decide), fun y => absurd y (by decide), fun y => absurd y (by decide), fun y => absurd y (by decide), fun y => absurd y (by decide), fun y => absurd y (by decide), fun y => absurd y (by decide), fun y => absurd y (by decide), fun y => absurd y (by decide), fun _ => ?_, fun _ _ _ _ _ _ _ _ _ _ _ y => absurd (by decide) y⟩
    obtain ⟨s, rfl, _⟩ := VT.txt (t6 (Or.inl o)).1 az
    obtain ⟨u, rfl, _⟩ := VT.txt (t6 (Or.inl o)).2 bz
    refine useI0 (w_matches ka.tx kb.tx (by omega)) ?_
    rintro v5 h5 hI5 _ ⟨rfl, he5⟩
    have he5 := he5.symm
    subst he5
    refine trt _ (vLike s u) ?_ (by cases vLike s u <;> decide)
    rw [hz]; unfold prV; rw [if_pos o, if_neg nnb]; rfl
  · have et : a.1 = b.1 := by have := t9 o; omega
    have ez : z = .ok (vTold k a b) := by rw [hz]; unfold prV; rw [if_neg (by omega), if_pos o]
    rw [told_ok nn] at ez
    have := k5 (by omega)
    rcases (show k = 0 ∨ k = 1 ∨ k = 2 ∨ k = 3 ∨ k = 4 ∨ k = 5 by omega) with kk | kk | kk | kk | kk | kk
    · rw [show opN (nat_ A i) = 364 by unfold opN; rw [o, ek, kk]; rfl] at f7
      rw [f7]
      refine ⟨cst0 hI (by decide), useI0 (w_ord (j := 364) (by decide) (by omega)) ?_⟩
      rintro v4 h4 hI4 _ ⟨rfl, he4⟩
      have he4 := he4.symm
      subst he4
      refine ⟨fun y => absurd y (by decide), fun y => absurd y (by decide), fun y => absurd y (by decide), fun y => absurd y (by decide), fun y => absurd y (by decide), fun y => absurd y (by decide), fun _ => ?_, fun y => absurd y (by decide), fun y => absurd y (by decide), fun y => absurd y (by decide), fun y => absurd y (by decide), fun y => absurd y (by decide), fun _ _ _ _ _ _ y _ _ _ _ _ => absurd (by decide) y⟩
      subst kk
      refine ord et fun x sx => ⟨fun y => trt _ _ ez ?_, fun y => trt _ _ ez ?_⟩
      · show decide ((0 : Int32) ≠ 0) = (vCmp a b == 0)
        simpa using fun e => y (sx.2.mpr e)
      · show decide ((1 : Int32) ≠ 0) = (vCmp a b == 0)
        simpa using sx.2.mp y
    · rw [show opN (nat_ A i) = 365 by unfold opN; rw [o, ek, kk]; rfl] at f7
      rw [f7]
      refine ⟨cst0 hI (by decide), useI0 (w_ord (j := 365) (by decide) (by omega)) ?_⟩
      rintro v4 h4 hI4 _ ⟨rfl, he4⟩
      have he4 := he4.symm
      subst he4
      refine ⟨fun y => absurd y (by decide), fun y => absurd y (by decide), fun y => absurd y (by decide), fun y => absurd y (by decide), fun y => absurd y (by decide), fun y => absurd y (by decide), fun y => absurd y (by decide), fun _ => ?_, fun y => absurd y (by decide), fun y => absurd y (by decide), fun y => absurd y (by decide), fun y => absurd y (by decide), fun _ _ _ _ _ _ _ y _ _ _ _ => absurd (by decide) y⟩
      subst kk
      refine ord et fun x sx => ⟨fun y => trt _ _ ez ?_, fun y => trt _ _ ez ?_⟩
      · show decide ((0 : Int32) ≠ 0) = (vCmp a b != 0)
        simpa using sx.2.mp y
      · show decide ((1 : Int32) ≠ 0) = (vCmp a b != 0)
        simpa using fun e => y (sx.2.mpr e)
    · rw [show opN (nat_ A i) = 366 by unfold opN; rw [o, ek, kk]; rfl] at f7
      rw [f7]
      refine ⟨cst0 hI (by decide), useI0 (w_ord (j := 366) (by decide) (by omega)) ?_⟩
      rintro v4 h4 hI4 _ ⟨rfl, he4⟩
      have he4 := he4.symm
      subst he4
      refine ⟨fun y => absurd y (by decide), fun y => absurd y (by decide), fun y => absurd y (by decide), fun y => absurd y (by decide), fun y => absurd y (by decide), fun y => absurd y (by decide), fun y => absurd y (by decide), fun y => absurd y (by decide), fun _ => ?_, fun y => absurd y (by decide), fun y => absurd y (by decide), fun y => absurd y (by decide), fun _ _ _ _ _ _ _ _ y _ _ _ => absurd (by decide) y⟩
      subst kk
      refine ord et fun x sx => ⟨fun y => trt _ _ ez ?_, fun y => trt _ _ ez ?_⟩
      · show decide ((0 : Int32) ≠ 0) = decide (vCmp a b < 0)
        simpa using sx.ge.mp y
      · show decide ((1 : Int32) ≠ 0) = decide (vCmp a b < 0)
        simpa using fun e => y (sx.ge.mpr e)
    · rw [show opN (nat_ A i) = 367 by unfold opN; rw [o, ek, kk]; rfl] at f7
      rw [f7]
      refine ⟨cst0 hI (by decide), useI0 (w_ord (j := 367) (by decide) (by omega)) ?_⟩
      rintro v4 h4 hI4 _ ⟨rfl, he4⟩
      have he4 := he4.symm
      subst he4
      refine ⟨fun y => absurd y (by decide), fun y => absurd y (by decide), fun y => absurd y (by decide), fun y => absurd y (by decide), fun y => absurd y (by decide), fun y => absurd y (by decide), fun y => absurd y (by decide), fun y => absurd y (by decide), fun y => absurd y (by decide), fun _ => ?_, fun y => absurd y (by decide), fun y => absurd y (by decide), fun _ _ _ _ _ _ _ _ _ y _ _ => absurd (by decide) y⟩
      subst kk
      refine ord et fun x sx => ⟨fun y => trt _ _ ez ?_, fun y => trt _ _ ez ?_⟩
      · show decide ((0 : Int32) ≠ 0) = decide (vCmp a b ≤ 0)
        simpa using sx.gt.mp y
      · show decide ((1 : Int32) ≠ 0) = decide (vCmp a b ≤ 0)
        simpa using fun e => y (sx.gt.mpr e)
    · rw [show opN (nat_ A i) = 368 by unfold opN; rw [o, ek, kk]; rfl] at f7
      rw [f7]
      refine ⟨cst0 hI (by decide), useI0 (w_ord (j := 368) (by decide) (by omega)) ?_⟩
      rintro v4 h4 hI4 _ ⟨rfl, he4⟩
      have he4 := he4.symm
      subst he4
      refine ⟨fun y => absurd y (by decide), fun y => absurd y (by decide), fun y => absurd y (by decide), fun y => absurd y (by decide), fun y => absurd y (by decide), fun y => absurd y (by decide), fun y => absurd y (by decide), fun y => absurd y (by decide), fun y => absurd y (by decide), fun y => absurd y (by decide), fun _ => ?_, fun y => absurd y (by decide), fun _ _ _ _ _ _ _ _ _ _ y _ => absurd (by decide) y⟩
      subst kk
      refine ord et fun x sx => ⟨fun y => trt _ _ ez ?_, fun y => trt _ _ ez ?_⟩
      · show decide ((0 : Int32) ≠ 0) = decide (0 < vCmp a b)
        simpa using sx.le.mp y
      · show decide ((1 : Int32) ≠ 0) = decide (0 < vCmp a b)
        simpa using fun e => y (sx.le.mpr e)
    · rw [show opN (nat_ A i) = 369 by unfold opN; rw [o, ek, kk]; rfl] at f7
      rw [f7]
      refine ⟨cst0 hI (by decide), useI0 (w_ord (j := 369) (by decide) (by omega)) ?_⟩
      rintro v4 h4 hI4 _ ⟨rfl, he4⟩
      have he4 := he4.symm
      subst he4
      refine ⟨fun y => absurd y (by decide), fun y => absurd y (by decide), fun y => absurd y (by decide), fun y => absurd y (by decide), fun y => absurd y (by decide), fun y => absurd y (by decide), fun y => absurd y (by decide), fun y => absurd y (by decide), fun y => absurd y (by decide), fun y => absurd y (by decide), fun y => absurd y (by decide), fun y => absurd y (by decide), fun _ _ _ _ _ _ _ _ _ _ _ _ => ?_⟩
      subst kk
      refine ord et fun x sx => ⟨fun y => trt _ _ ez ?_, fun y => trt _ _ ez ?_⟩
      · show decide ((0 : Int32) ≠ 0) = decide (0 ≤ vCmp a b)
        simpa using sx.1.mp y
      · show decide ((1 : Int32) ≠ 0) = decide (0 ≤ vCmp a b)
        simpa using fun e => y (sx.1.mpr e)
  · have ez : z = vWorked k a b := by rw [hz]; unfold prV; rw [if_neg (by omega), if_neg (by omega)]
    rw [worked_ok nn] at ez
    have := k5 (by omega)
    rcases (show k = 0 ∨ k = 1 ∨ k = 2 ∨ k = 3 ∨ k = 4 ∨ k = 5 by omega) with kk | kk | kk | kk | kk | kk
    · rw [show opN (nat_ A i) = 361 by unfold opN; rw [o, ek, kk]; rfl] at f7
      rw [f7]
      refine ⟨cst0 hI (by decide), useI0 (w_ord (j := 361) (by decide) (by omega)) ?_⟩
      rintro v4 h4 hI4 _ ⟨rfl, he4⟩
      have he4 := he4.symm
      subst he4
      refine ⟨fun _ => ?_, fun y => absurd y (by decide), fun y => absurd y (by decide), fun y => absurd y (by decide), fun y => absurd y (by decide), fun y => absurd y (by decide), fun y => absurd y (by decide), fun y => absurd y (by decide), fun y => absurd y (by decide), fun y => absurd y (by decide), fun y => absurd y (by decide), fun y => absurd y (by decide), fun y _ _ _ _ _ _ _ _ _ _ _ => absurd (by decide) y⟩
      obtain ⟨m, em, _⟩ := VT.num (t14 o (by omega)).1 az
      obtain ⟨m', em', _⟩ := VT.num (t14 o (by omega)).2 bz
      subst em em' kk
      exact num m m' rfl rfl ⟨own, fin_number C S il (by omega) ez (by omega)⟩
    · rw [show opN (nat_ A i) = 362 by unfold opN; rw [o, ek, kk]; rfl] at f7
      rw [f7]
      refine ⟨cst0 hI (by decide), useI0 (w_ord (j := 362) (by decide) (by omega)) ?_⟩
      rintro v4 h4 hI4 _ ⟨rfl, he4⟩
      have he4 := he4.symm
      subst he4
      refine ⟨fun y => absurd y (by decide), fun _ => ?_, fun y => absurd y (by decide), fun y => absurd y (by decide), fun y => absurd y (by decide), fun y => absurd y (by decide), fun y => absurd y (by decide), fun y => absurd y (by decide), fun y => absurd y (by decide), fun y => absurd y (by decide), fun y => absurd y (by decide), fun y => absurd y (by decide), fun _ y _ _ _ _ _ _ _ _ _ _ => absurd (by decide) y⟩
      obtain ⟨m, em, _⟩ := VT.num (t14 o (by omega)).1 az
      obtain ⟨m', em', _⟩ := VT.num (t14 o (by omega)).2 bz
      subst em em' kk
      exact num m m' rfl rfl ⟨own, fin_number C S il (by omega) ez (by omega)⟩
    · rw [show opN (nat_ A i) = 358 by unfold opN; rw [o, ek, kk]; rfl] at f7
      rw [f7]
      refine ⟨cst0 hI (by decide), useI0 (w_ord (j := 358) (by decide) (by omega)) ?_⟩
      rintro v4 h4 hI4 _ ⟨rfl, he4⟩
      have he4 := he4.symm
      subst he4
      refine ⟨fun y => absurd y (by decide), fun y => absurd y (by decide), fun _ => ?_, fun y => absurd y (by decide), fun y => absurd y (by decide), fun y => absurd y (by decide), fun y => absurd y (by decide), fun y => absurd y (by decide), fun y => absurd y (by decide), fun y => absurd y (by decide), fun y => absurd y (by decide), fun y => absurd y (by decide), fun _ _ y _ _ _ _ _ _ _ _ _ => absurd (by decide) y⟩
      obtain ⟨m, em, _⟩ := VT.num (t14 o (by omega)).1 az
      obtain ⟨m', em', _⟩ := VT.num (t14 o (by omega)).2 bz
      subst em em' kk
      exact num m m' rfl rfl (w_times C S il (by omega) ez (by omega))
    · rw [show opN (nat_ A i) = 359 by unfold opN; rw [o, ek, kk]; rfl] at f7
      rw [f7]
      refine ⟨cst0 hI (by decide), useI0 (w_ord (j := 359) (by decide) (by omega)) ?_⟩
      rintro v4 h4 hI4 _ ⟨rfl, he4⟩
      have he4 := he4.symm
      subst he4
      refine ⟨fun y => absurd y (by decide), fun y => absurd y (by decide), fun y => absurd y (by decide), fun _ => ?_, fun y => absurd y (by decide), fun y => absurd y (by decide), fun y => absurd y (by decide), fun y => absurd y (by decide), fun y => absurd y (by decide), fun y => absurd y (by decide), fun y => absurd y (by decide), fun y => absurd y (by decide), fun _ _ _ y _ _ _ _ _ _ _ _ => absurd (by decide) y⟩
      obtain ⟨m, em, _⟩ := VT.num (t14 o (by omega)).1 az
      obtain ⟨m', em', _⟩ := VT.num (t14 o (by omega)).2 bz
      subst em em' kk
      have ez : z = (if (m' == 0) = true then xErr "22012" else xNum (m / m')) := ez
      exact div m m' rfl rfl (fun y => by rw [ez, y]; rfl) fun y => ⟨y, own, fin_number C S il (by omega) (by rw [ez, if_neg (by simpa using y)]) (by omega)⟩
    · rw [show opN (nat_ A i) = 360 by unfold opN; rw [o, ek, kk]; rfl] at f7
      rw [f7]
      refine ⟨cst0 hI (by decide), useI0 (w_ord (j := 360) (by decide) (by omega)) ?_⟩
      rintro v4 h4 hI4 _ ⟨rfl, he4⟩
      have he4 := he4.symm
      subst he4
      refine ⟨fun y => absurd y (by decide), fun y => absurd y (by decide), fun y => absurd y (by decide), fun y => absurd y (by decide), fun _ => ?_, fun y => absurd y (by decide), fun y => absurd y (by decide), fun y => absurd y (by decide), fun y => absurd y (by decide), fun y => absurd y (by decide), fun y => absurd y (by decide), fun y => absurd y (by decide), fun _ _ _ _ y _ _ _ _ _ _ _ => absurd (by decide) y⟩
      obtain ⟨m, em, _⟩ := VT.num (t14 o (by omega)).1 az
      obtain ⟨m', em', _⟩ := VT.num (t14 o (by omega)).2 bz
      subst em em' kk
      have ez : z = (if (m' == 0) = true then xErr "22012" else xNum (m - m / m' * m')) := ez
      exact div m m' rfl rfl (fun y => by rw [ez, y]; rfl) fun y => ⟨y, own, fin_number C S il (by omega) (by rw [ez, if_neg (by simpa using y)]) (by omega)⟩
    · rw [show opN (nat_ A i) = 363 by unfold opN; rw [o, ek, kk]; rfl] at f7
      rw [f7]
      refine ⟨cst0 hI (by decide), useI0 (w_ord (j := 363) (by decide) (by omega)) ?_⟩
      rintro v4 h4 hI4 _ ⟨rfl, he4⟩
      have he4 := he4.symm
      subst he4
      refine ⟨fun y => absurd y (by decide), fun y => absurd y (by decide), fun y => absurd y (by decide), fun y => absurd y (by decide), fun y => absurd y (by decide), fun _ => ?_, fun y => absurd y (by decide), fun y => absurd y (by decide), fun y => absurd y (by decide), fun y => absurd y (by decide), fun y => absurd y (by decide), fun y => absurd y (by decide), fun _ _ _ _ _ y _ _ _ _ _ _ => absurd (by decide) y⟩
      obtain ⟨s, es, _⟩ := VT.txt (t6 (Or.inr ⟨o, kk⟩)).1 az
      obtain ⟨u, eu, _⟩ := VT.txt (t6 (Or.inr ⟨o, kk⟩)).2 bz
      subst es eu kk
      exact w_joined C S il (by omega) ka kb na nb ez (by omega)
end
