/-! trees alike: the other way round; the component: Select.named -/
section
variable {D : JD} {h h' h'' h0 h1 h2 : JH} {ρ ρ0 : Nat → Nat} {A A0 : List Nod} {E E' : TEnv} {c r v k d e sc n B u x z s nm arr cnt ra rb cn t tt τ itq ik : Nat} {y : Stm} {pt : List Nat} {S : Nat → Prop} {w w1 w2 : Str} {L L0 : List (Nat × List (Str × Tab))} {gs : List Nat} {gr : Bool} {cs : List SCol} {nd : Nod} {q q0 : List Nod × List SCol} {ss : List (Str × Tab)} {tb : Tab} {T : List Tab} {X : List Nat} {it : Itm}
theorem vCmpS_0 : ∀ (s t : Str), vCmpS s t = 0 ↔ s = t
  | [], [] => by simp [vCmpS]
  | [], _ :: _ => by simp [vCmpS]
  | _ :: _, [] => by simp [vCmpS]
  | a :: s, b :: t => by
    rw [vCmpS]
    by_cases c : a = b
    · subst c
      rw [if_pos (beq_self_eq_true _), vCmpS_0 s t]
      simp
    · rw [if_neg (by simpa using c)]
      constructor
      · intro z
        split at z <;> exact absurd z (by decide)
      · intro z
        exact absurd (List.cons.inj z).1 c
theorem vCmp_0 {a b : Val} (e : a.1 = b.1) : vCmp a b = 0 ↔ (if a.1 = 25 then a.2.2 = b.2.2 else a.2.1 = b.2.1) := by
  unfold vCmp
  by_cases c : a.1 = 25
  · rw [if_pos (by rw [c]; rfl), if_pos c]
    exact vCmpS_0 _ _
  · rw [if_neg (by simpa using c), if_neg c]
    by_cases c1 : a.2.1 < b.2.1
    · rw [if_pos c1]
      refine ⟨fun z => absurd z (by decide), fun z => ?_⟩
      rw [z] at c1
      exact absurd c1 (fun z => Int64.lt_irrefl z)
    · rw [if_neg c1]
      by_cases c2 : a.2.1 = b.2.1
      · rw [if_pos (by simpa using c2)]
        exact ⟨fun _ => c2, fun _ => rfl⟩
      · rw [if_neg (by simpa using c2)]
        exact ⟨fun z => absurd z (by decide), fun z => absurd z c2⟩
theorem vAlike_iff {a b : Val} : vAlike a b = true ↔ a.1 = b.1 ∧ (a.1 = 0 ∨ (if a.1 = 25 then a.2.2 = b.2.2 else a.2.1 = b.2.1)) := by
  unfold vAlike
  by_cases c : (a.1 == 0 || b.1 == 0) = true
  · rw [if_pos c]
    simp only [Bool.or_eq_true, beq_iff_eq] at c
    simp only [beq_iff_eq]
    constructor
    · intro z
      exact ⟨z, Or.inl (by omega)⟩
    · exact fun z => z.1
  · rw [if_neg c]
    simp only [Bool.or_eq_true, beq_iff_eq, not_or] at c
    rw [Bool.and_eq_true, beq_iff_eq, beq_iff_eq]
    constructor
    · rintro ⟨z1, z2⟩
      exact ⟨z1, Or.inr ((vCmp_0 z1).mp z2)⟩
    · rintro ⟨z1, z2⟩
      exact ⟨z1, (vCmp_0 z1).mpr (z2.resolve_left c.1)⟩
theorem vAlike_sym {a b : Val} (z : vAlike a b = true) : vAlike b a = true := by
  rw [vAlike_iff] at z ⊢
  obtain ⟨z1, z2⟩ := z
  refine ⟨z1.symm, ?_⟩
  rw [← z1]
  rcases z2 with y | y
  · exact Or.inl y
  · right
    by_cases c : a.1 = 25
    · rw [if_pos c] at y ⊢; exact y.symm
    · rw [if_neg c] at y ⊢; exact y.symm
theorem lkN.sym {a b : Nod} (k : lkN E a b) : lkN E b a := by
  obtain ⟨k1, k2, k3, k4, k5⟩ := k
  exact ⟨k1.symm, k2.symm, fun z => vAlike_sym (k3 (k1.trans z)), fun z => (k4 (k1.trans z)).symm, fun z => (k5 (k1.trans z)).symm⟩
theorem zip_all {α : Type} {P Q : List α} {p : α × α → Bool} : (P.zip Q).all p = true ↔ ∀ (k : Nat) a b, P[k]? = some a → Q[k]? = some b → p (a, b) = true := by
  rw [List.all_eq_true]
  constructor
  · intro H k a b ha hb
    exact H (a, b) (List.mem_of_getElem? (i := k) (List.getElem?_zip_eq_some.mpr ⟨ha, hb⟩))
  · intro H q hq
    obtain ⟨k, kl, hk⟩ := List.getElem_of_mem hq
    have hk' : (P.zip Q)[k]? = some q := by rw [List.getElem?_eq_getElem kl, hk]
    obtain ⟨a1, a2⟩ := List.getElem?_zip_eq_some.mp hk'
    exact H k q.1 q.2 a1 a2
theorem tEq_sym (hA : NOK A) : ∀ (f g i j : Nat), i < f → j < g → i < A.length → j < A.length → tEqual A A E f i j = true → tEqual A A E g j i = true
  | 0, _, _, _, hi, _, _, _, _ => absurd hi (Nat.not_lt_zero _)
  | f + 1, 0, _, _, _, hj, _, _, _ => absurd hj (Nat.not_lt_zero _)
  | f + 1, g + 1, i, j, hi, hj, il, jl, z => by
    rw [tEq_eq] at z ⊢
    obtain ⟨z1, z2⟩ := z
    refine ⟨z1.sym, ?_⟩
    unfold lkP at z2 ⊢
    rw [Bool.and_eq_true] at z2 ⊢
    obtain ⟨z2, z3⟩ := z2
    refine ⟨by rw [beq_iff_eq] at z2 ⊢; exact z2.symm, ?_⟩
    rw [zip_all] at z3 ⊢
    intro k a b ha hb
    have b1 := ((Til.lt (hA i il).2.1).2 b (List.mem_of_getElem? hb)).1
    have a1 := ((Til.lt (hA j jl).2.1).2 a (List.mem_of_getElem? ha)).1
    exact tEq_sym hA f g b a (by omega) (by omega) (by omega) (by omega) (z3 k b a hb ha)
theorem tEq_any (hA : NOK A) (xl : x < A.length) (cl : ∀ c ∈ cs, c.1 < A.length) : (cs.any fun c => tEqual A A E (x + 1) x c.1) = cs.any fun c => tEqual A A E (c.1 + 1) c.1 x := by
  rw [Bool.eq_iff_iff, List.any_eq_true, List.any_eq_true]
  constructor
  · rintro ⟨c, c1, c2⟩
    exact ⟨c, c1, tEq_sym hA _ _ _ _ (Nat.lt_succ_self _) (Nat.lt_succ_self _) xl (cl c c1) c2⟩
  · rintro ⟨c, c1, c2⟩
    exact ⟨c, c1, tEq_sym hA _ _ _ _ (Nat.lt_succ_self _) (Nat.lt_succ_self _) (cl c c1) xl c2⟩
theorem w_nmd (I : SkI D A0 ρ0 sc E pt L0 v gs gr X q h h1) (hI : JInv D h) (hI1 : JInv D h1) (kd : SelR h ρ0 v y) (eb : EnT D h e T) (sr : SrT D h v e T y E.1) (hT : TbT T) (l12 : (slI (smS y)).length ≤ 12) (xl : x < A0.length) (hd : 8 ≤ d) :
    cX40_named D d v (ρ0 x) h1 (pI D h1 (fun r h' => h' = h1 ∧ ∃ o, oNm E (slI (smS y)) q.1 q.2 x = .ok o ∧ r = (match o with | some k => nI k | none => -1)) (fun z h' => oNm E (slI (smS y)) q.1 q.2 x = .error (sStr "42P10") ∧ Flt h1 h' z (sStr "42P10"))) := by
  obtain ⟨d, rfl, he⟩ := dsucc (show 1 ≤ d by omega)
  have I0 := I
  obtain ⟨v0, vk⟩ := kd.vk
  obtain ⟨ρ, L, B, eA, lB, hA, ri, hρ, C, LL, LA⟩ := I
  have xl1 : x < q.1.length := by rw [eA, List.length_append]; omega
  have nr := C.1.1.2.2.1 x xl1
  rw [hρ x xl] at nr
  have sh := (hA x xl1).2.2.1
  have op := fun {k : Nat} (z : jkd h1 (ρ0 x) = k) => nkd_op sh.op (nr.2.1.symm.trans z)
  obtain ⟨k1, k2, k3, f0, f1, f2, f3, f4, f5⟩ := nr
  obtain ⟨c159, l16⟩ := C.2.2.2.1
  have flt : oNm E (slI (smS y)) q.1 q.2 x = .error (sStr "42P10") → W_X40_named_41 D d (pI D h1 (fun r h' => h' = h1 ∧ ∃ o, oNm E (slI (smS y)) q.1 q.2 x = .ok o ∧ r = (match o with | some k => nI k | none => -1)) (fun z h' => oNm E (slI (smS y)) q.1 q.2 x = .error (sStr "42P10") ∧ Flt h1 h' z (sStr "42P10"))) h1 := by
    intro eo
    refine useR0 (w_fault (w := "42P10") ⟨by decide, by decide +kernel⟩ (by omega)) ?_
    rintro z h6 hI6 _ ⟨y1, y2⟩
    exact ⟨y1, fun _ _ => ⟨eo, y2⟩⟩
  have rest : ¬ (ndO (nat_ q.1 x) == 0 && (ndV (nat_ q.1 x)).1 == 20) = true → W_X40_named_52 D d (pI D h1 (fun r h' => h' = h1 ∧ ∃ o, oNm E (slI (smS y)) q.1 q.2 x = .ok o ∧ r = (match o with | some k => nI k | none => -1)) (fun z h' => oNm E (slI (smS y)) q.1 q.2 x = .error (sStr "42P10") ∧ Flt h1 h' z (sStr "42P10"))) v (ρ0 x) h1 := by
    intro nl
    have eo : oNm E (slI (smS y)) q.1 q.2 x = .ok ((if (ndO (nat_ q.1 x) == 2 && (ndF (nat_ q.1 x)).isNone) = true then cNamed (slI (smS y)) (ndS (nat_ q.1 x)) else none).map (isum E (slI (smS y)))) := by
      unfold oNm
      rw [if_neg nl]
    have no' : ¬ (ndO (nat_ q.1 x) == 2 && (ndF (nat_ q.1 x)).isNone) = true → W_X40_named_69 D d (pI D h1 (fun r h' => h' = h1 ∧ ∃ o, oNm E (slI (smS y)) q.1 q.2 x = .ok o ∧ r = (match o with | some k => nI k | none => -1)) (fun z h' => oNm E (slI (smS y)) q.1 q.2 x = .error (sStr "42P10") ∧ Flt h1 h' z (sStr "42P10"))) h1 := by
      intro c
      rw [if_neg c] at eo
      exact (show pI D h1 (fun r h' => h' = h1 ∧ ∃ o, oNm E (slI (smS y)) q.1 q.2 x = .ok o ∧ r = (match o with | some k => nI k | none => -1)) (fun z h' => oNm E (slI (smS y)) q.1 q.2 x = .error (sStr "42P10") ∧ Flt h1 h' z (sStr "42P10")) (.inl (some (vI (-1)))) h1 from endI fun _ _ => ⟨rfl, none, eo, rfl⟩)
    refine ⟨fun ⟨_, k24⟩ => ⟨Or.inr k24, k1, fun g => ?_, fun g => no' fun c => ?_⟩, fun z => no' fun c => z ⟨k1, ?_⟩⟩
    · have o2 : ndO (nat_ q.1 x) = 2 := by have := op k24; omega
      have fn : (ndF (nat_ q.1 x)).isNone = true := by
        have := (f2 o2).2
        cases hl : ndF (nat_ q.1 x) with
        | none => rfl
        | some w => rw [hl] at this; exact absurd g this.1
      rw [if_pos (by rw [o2, fn]; rfl)] at eo
      refine ⟨(slI (smS y)).length + 1, w_namL I0 hI kd eb sr hT l12 k1 k24 (f2 o2).1 (by omega) ?_ (slI (smS y)).length 0 (by omega) fun j it hj => absurd hj (Nat.not_lt_zero _)⟩
      refine endI fun _ _ => ⟨rfl, _, eo, ?_⟩
      cases cNamed (slI (smS y)) (ndS (nat_ q.1 x)) with
      | none => rfl
      | some k => rfl
    · rw [Bool.and_eq_true, beq_iff_eq] at c
      have := (f2 c.1).2
      cases hl : ndF (nat_ q.1 x) with
      | none => rw [hl] at this; exact g this
      | some w => rw [hl] at c; cases c.2
    · rw [Bool.and_eq_true, beq_iff_eq] at c
      rw [k2]
      unfold nkd
      rw [c.1]
      rfl
  refine t_X40_named ⟨fun ⟨_, k25⟩ => ⟨k1, fun g => rest fun c => ?_, fun g => ?_⟩, fun z => rest fun c => z ⟨k1, ?_⟩⟩
  · rw [Bool.and_eq_true, beq_iff_eq, beq_iff_eq] at c
    exact g (by rw [(f0 c.1).1, c.2]; rfl)
  · have o0 : ndO (nat_ q.1 x) = 0 := by have := op k25; omega
    have lit : LitV (ndV (nat_ q.1 x)) := by
      rcases sh with ⟨_, _, _, l⟩ | ⟨o, _⟩ | ⟨o, _⟩ | ⟨o, _⟩ | ⟨o, _⟩ | ⟨o, _⟩ | ⟨o, _⟩ | ⟨o, _⟩ | ⟨o, _⟩ | ⟨o, _⟩ | ⟨o, _⟩ | ⟨o, _⟩ | ⟨o, _⟩
      · exact l
      all_goals omega
    have ty : TyOk (ndV (nat_ q.1 x)).1 := by
      rcases lit with l | ⟨b, l⟩ | ⟨n, l, _⟩ | ⟨s, l, _⟩ <;> rw [l]
      · exact Or.inl rfl
      · exact Or.inr (Or.inl rfl)
      · exact Or.inr (Or.inr (Or.inl rfl))
      · exact Or.inr (Or.inr (Or.inr rfl))
    obtain ⟨t1, t2⟩ := f0 o0
    have t20 : (ndV (nat_ q.1 x)).1 = 20 := tyc_inj hI1 ty (Or.inr (Or.inr (Or.inl rfl))) (t1.symm.trans g)
    obtain ⟨m, em⟩ : ∃ m, ndV (nat_ q.1 x) = vNum m := by
      rcases lit with l | ⟨b, l⟩ | ⟨n, l, _⟩ | ⟨s, l, _⟩
      · rw [l] at t20; exact absurd (show _ = 20 from t20) (by first | decide | (intro z; cases z))
      · rw [l] at t20; exact absurd (show _ = 20 from t20) (by first | decide | (intro z; cases z))
      · exact ⟨n, l⟩
      · rw [l] at t20; exact absurd (show _ = 20 from t20) (by first | decide | (intro z; cases z))
    have eo : oNm E (slI (smS y)) q.1 q.2 x = (if (1 ≤ m && m ≤ Int64.ofNat q.2.length) = true then .ok (some (m.toNatClampNeg - 1)) else xErr "42P10") := by
      unfold oNm
      rw [if_pos (by rw [o0, t20]; rfl), em]
      rfl
    rw [em] at t2
    refine ⟨k3.1, JW.up (n := 1) (fun dd => useL0 (k_cNum (d := dd) k3.1) ?_) (by omega)⟩
    rintro v7 h6 hI6 _ ⟨rfl, he6⟩
    have he6 := he6.symm
    subst he6
    rw [t2.num]
    refine ⟨fun g1 => flt ?_, fun g1 => ⟨v0, fun g2 => ?_, fun g2 => flt ?_⟩⟩
    · have := (cmp_lt m 1).mp g1
      rw [eo, if_neg]
      · rfl
      · rw [Bool.and_eq_true, decide_eq_true_eq]
        exact fun z => absurd this (Int64.not_lt.mpr z.1)
    · have a1 : 1 ≤ m := Int64.not_lt.mp fun z => g1 ((cmp_lt m 1).mpr z)
      rw [c159, i64_wid _ (by omega)] at g2
      have a2 : m ≤ Int64.ofNat q.2.length := Int64.not_lt.mp ((cmp_le m _).mp g2)
      obtain ⟨k, b1, b2, rfl⟩ := i64_small l16 a1 a2
      obtain ⟨b3, b4⟩ := i64_tab k (by omega) b1
      rw [b3]
      refine endI fun _ _ => ⟨rfl, some (k - 1), ?_, rfl⟩
      rw [eo, if_pos (by rw [Bool.and_eq_true, decide_eq_true_eq, decide_eq_true_eq]; exact ⟨a1, a2⟩), b4]
    · rw [c159, i64_wid _ (by omega)] at g2
      rw [eo, if_neg]
      · rfl
      · rw [Bool.and_eq_true, decide_eq_true_eq, decide_eq_true_eq]
        exact fun z => g2 ((cmp_le m _).mpr (Int64.not_lt.mpr z.2))
  · rw [Bool.and_eq_true, beq_iff_eq] at c
    rw [k2]
    unfold nkd
    rw [c.1]
    rfl
end
