/-! the component: conditions, groups and the flag of SELECT are checked -/
section
variable {D : JD} {h h' h'' h0 h1 h2 : JH} {ρ : Nat → Nat} {A : List Nod} {E E' : TEnv} {q c r i v k j d e sc n B u x z ra rb : Nat} {y : Stm} {T : List Tab} {pt : List Nat} {R : List Nat} {ss : List (Str × Tab)} {S : Nat → Prop} {L : List (Nat × List (Str × Tab))} {gs : List Nat}
/-- while SELECT is checked: the trees L have their places -/
def SkP (D : JD) (S : Nat → Prop) (A : List Nod) (ρ : Nat → Nat) (sc : Nat) (E : TEnv) (pt : List Nat) (L : List (Nat × List (Str × Tab))) (ra rb : Nat) (h h1 : JH) : Prop :=
  (KF chkK h h1 ∧ SFg D S h h1 ∧ TreeR D h1 A ρ ∧ ScC D h1 sc E ∧ jfi h1 52 sc = 0 ∧ (∀ q, jkd h q ≠ 0 → jfr h1 138 q = jfr h 138 q) ∧ jsz h1 ≤ jsz h + ra ∧ jus h1 ≤ jus h + rb) ∧ ∀ p ∈ L, p.1 < A.length ∧ PlA A (p.2, pt, true) h1 ρ p.1
/-- a tree stands apart from the trees L -/
def Apt (A : List Nod) (L : List (Nat × List (Str × Tab))) (x : Nat) : Prop := ∀ p ∈ L, p.1 < ndL (nat_ A x) ∨ x < ndL (nat_ A p.1)
theorem SF.up (a : SF D h h1) : SFg D S h h1 := a.mono fun _ _ z => z.elim
theorem SkP.step (P : SkP D S A ρ sc E pt L ra rb h h1) (hA : NOK A) (ri : RI ρ A.length) (hI1 : JInv D h1) (c : CkF sc (NM A ρ (ndL (nat_ A x)) (x + 1)) h1 h2) (w : jfi h2 52 sc = jfi h1 52 sc) (px : PlA A E h2 ρ x) (ap : Apt A L x) (xl : x < A.length) : SkP D S A ρ sc E pt (L ++ [(x, E.1)]) ra rb h h2 := by
  obtain ⟨⟨kf, sf, tr, sC, w5, f8, z1, z2⟩, pl⟩ := P
  have s6 := sC.1.2
  have sf2 := c.sf hA hI1 tr s6
  refine ⟨⟨kf.tr (c.kf tr hI1 s6), sf.tr sf2.up hI1, tr.sf sf2 hA hI1, sC.ck c tr.nd, w.trans w5, fun q hq => (c.2.2.2.2.1 138 q fun z => absurd z (by decide)).trans (f8 q hq), by rw [c.2.1.1]; exact z1, by rw [c.2.1.2]; exact z2⟩, fun p hp => ?_⟩
  rcases List.mem_append.mp hp with g | g
  · obtain ⟨p1, p2⟩ := pl p g
    refine ⟨p1, p2.ck hA ri c p1 ?_⟩
    rcases ap p g with z | z
    · exact Or.inr z
    · exact Or.inl z
  · rw [List.mem_singleton.mp g]
    exact ⟨xl, px.env rfl⟩
theorem SkP.err {hm : JH} {lo hi : Nat} (P : SkP D S A ρ sc E pt L ra rb h h1) (hA : NOK A) (hI1 : JInv D h1) (c : CkF sc (NM A ρ lo hi) h1 hm) : KF chkK h hm ∧ SFg D S h hm ∧ jsz hm ≤ jsz h + ra ∧ jus hm ≤ jus h + rb := by
  obtain ⟨⟨kf, sf, tr, sC, w5, f8, z1, z2⟩, pl⟩ := P
  have s6 := sC.1.2
  exact ⟨kf.tr (c.kf tr hI1 s6), sf.tr (c.sf hA hI1 tr s6).up hI1, by rw [c.2.1.1]; exact z1, by rw [c.2.1.2]; exact z2⟩
/-- how a check of SELECT fails -/
def SkX (D : JD) (S : Nat → Prop) (ra rb : Nat) (h h' : JH) (z : Nat) (c : Str) : Prop := ∃ hm, KF chkK h hm ∧ SFg D S h hm ∧ jsz hm ≤ jsz h + ra ∧ jus hm ≤ jus h + rb ∧ FlX hm h' z c
theorem w_chkP (P : SkP D S A ρ sc E pt L ra rb h h1) (hA : NOK A) (ri : RI ρ A.length) (hn : (E.1.map (·.1)).Nodup) (hI1 : JInv D h1) (xl : x < A.length) (hB : HB A n x) (ap : Apt A L x) (hd : n + 12 ≤ d) :
    v55_check D d (ρ x) sc h1 (pR D h1 52 (fun v h' => ∃ t, tType A E x = .ok t ∧ v = tyc D t ∧ TyOk t ∧ jfr h' 109 (ρ x) = v ∧ CkF sc (NM A ρ (ndL (nat_ A x)) (x + 1)) h1 h' ∧ SkP D S A ρ sc E pt (L ++ [(x, E.1)]) ra rb h h') (fun z h' => ∃ c, tType A E x = .error c ∧ SkX D S ra rb h h' z c)) := by
  obtain ⟨⟨kf, sf, tr, sC, w5, f8, z1, z2⟩, pl⟩ := id P
  refine useCk1 (w_check hA ri hn (x + 1) x false h1 d n (by omega) xl hB (by omega) tr sC w5) ?_ ?_
  · rintro v1 h3 hI3 ⟨t, t1, rfl, t3, t4, t5, t6, t7⟩
    exact ⟨t, t1, rfl, t3, t4, t5, P.step hA ri hI1 t5 t6 (PlT.all hA _ _ (Nat.lt_succ_self _) xl t7) ap xl⟩
  · rintro z h3 hI3 ⟨c, hm, c1, c2, c3⟩
    obtain ⟨g1, g2, g3, g4⟩ := P.err hA hI1 c2
    exact ⟨c, c1, hm, g1, g2, g3, g4, c3.fx (nb_type c c1)⟩
theorem w_truthP {o : Option Nat} (P : SkP D S A ρ sc E pt L ra rb h h1) (hA : NOK A) (ri : RI ρ A.length) (hn : (E.1.map (·.1)).Nodup) (hI1 : JInv D h1) (ol : ∀ x, o = some x → x < A.length ∧ HB A n x ∧ Apt A L x) (kr : OtR ρ r o) (hd : n + 14 ≤ d) :
    cX20_truth D d r sc h1 (pV D h1 (fun h' => tCond A E o = .ok () ∧ CkF sc (NM A ρ 0 A.length) h1 h' ∧ SkP D S A ρ sc E pt (L ++ o.toList.map fun x => (x, E.1)) ra rb h h') (fun z h' => ∃ c, tCond A E o = .error c ∧ SkX D S ra rb h h' z c)) := by
  obtain ⟨d, rfl, he⟩ := dsucc (show 1 ≤ d by omega)
  cases o with
  | none =>
    have kr : r = 0 := kr
    subst kr
    exact t_X20_truth ⟨fun _ => endV fun _ _ => ⟨rfl, CkF.rf, by rw [show (none : Option Nat).toList.map (fun x => (x, E.1)) = [] from rfl, List.append_nil]; exact P⟩, fun z => absurd rfl z⟩
  | some x =>
    have kr : r = ρ x := kr
    subst kr
    obtain ⟨xl, hB, ap⟩ := ol x rfl
    have tr := P.1.2.2.1
    refine t_X20_truth ⟨fun z => absurd z (tr x xl).1, fun _ => useCk1 (w_chkP P hA ri hn hI1 xl hB ap (by omega)) ?_ ?_⟩
    · rintro v1 h3 hI3 ⟨t, t1, rfl, t3, t4, t5, P3⟩
      have et : tCond A E (some x) = tFits t 16 := by
        show (tType A E x >>= fun t => tFits t 16) = _
        rw [t1]; rfl
      show cX24_need D d (tyc D t) (tyc D 16) h3 _
      refine useV (w_tneed t3 (Or.inr (Or.inl rfl)) (by omega)) ?_ ?_
      · rintro h4 hI4 _ ⟨f1, he4⟩
        have he4 := he4.symm
        subst he4
        exact endV fun _ _ => ⟨et.trans f1, t5.mono fun q hq => hq.mono (by omega) (by omega), P3⟩
      · rintro z h4 hI4 _ ⟨f1, f2⟩
        exact fun _ _ => ⟨_, et.trans f1, h3, P3.1.1, P3.1.2.1, P3.1.2.2.2.2.2.2.1, P3.1.2.2.2.2.2.2.2, f2.fx (by decide +kernel)⟩
    · rintro z h3 hI3 ⟨c, c1, c2⟩
      refine fun _ _ => ⟨c, ?_, c2⟩
      show (tType A E x >>= fun t => tFits t 16) = _
      rw [c1]; rfl
/-- a number of the statement is written -/
theorem SkP.wi {F : Nat} {b : Int32} (P : SkP D S A ρ sc E pt L ra rb h h1) (hA : NOK A) (hI1 : JInv D h1) (vk : jkd h1 v = 33) (hF : F = 159 ∨ F = 160) : SkP D S A ρ sc E pt L ra rb h (wfi h1 F v b) ∧ JInv D (wfi h1 F v b) := by
  obtain ⟨⟨kf, sf, tr, sC, w5, f8, z1, z2⟩, pl⟩ := P
  have wF : wfI F = true := by rcases hF with e | e <;> rw [e] <;> rfl
  have sm : ∀ q, jkd h1 q ≠ 33 → same h1 (wfi h1 F v b) q := fun q hq => same_wfi fun z => hq (by rw [z]; exact vk)
  have kf2 : KF chkK h1 (wfi h1 F v b) := by
    refine ⟨fun q _ _ q3 _ => same_wfi fun z => ?_, Nat.le_refl _, fun _ _ => rfl, fun o => o⟩
    rw [z, vk] at q3; cases q3
  have st : ∀ q w, StR h1 q w → StR (wfi h1 F v b) q w := fun q w k => by
    have q1 := k.2.1
    have q2 := k.2.2.2.2.1
    exact k.of (sm q (by omega)) (sm _ (by omega))
  have cs : ∀ c, CelW D h1 c → same h1 (wfi h1 F v b) c ∧ (jfr h1 67 c ≠ 0 → same h1 (wfi h1 F v b) (jfr h1 67 c)) := fun c cw => by
    have kc := cw.kd
    refine ⟨sm c (by omega), fun z => ?_⟩
    have := (cw.2.2.2.2.resolve_left z).1
    exact sm _ (by omega)
  have sf2 : SF D h1 (wfi h1 F v b) := by
    refine ⟨fun _ _ => rfl, fun q _ _ => ⟨rfl, fun G => ⟨fun g => ?_, rfl, fun _ _ => rfl⟩, fun _ _ => ⟨rfl, rfl⟩, fun _ _ _ => rfl, fun _ _ _ => rfl⟩, fun _ _ => rfl, fun q _ cw => cs _ cw, fun c _ _ cw => cs c cw, fun c _ cw => cw.of (cs c cw).1 (cs c cw).2, fun q w k => st q w k, fun o => o, Nat.le_refl _⟩
    rw [jfi_wfi, if_neg fun z => ?_]
    rw [z.1, wF] at g
    cases g
  have fi : ∀ G q, G ≠ F → jfi (wfi h1 F v b) G q = jfi h1 G q := fun G q hG => by rw [jfi_wfi, if_neg fun z => hG z.1]
  refine ⟨⟨⟨kf.tr kf2, sf.tr sf2.up hI1, tr.sf sf2 hA hI1, ?_, by rw [fi 52 _ (by omega)]; exact w5, f8, z1, z2⟩, fun p hp => ⟨(pl p hp).1, (pl p hp).2.fi fun G q hG => fi G q (by omega)⟩⟩, hI1.wfi (hI1.2.1 _ (by rw [vk]; rfl)) (hI1.lt (by rw [vk]; decide))⟩
  obtain ⟨k1, ⟨k3, k4, k5, k6, k7⟩, k8, k12⟩ := sC
  refine ⟨k1, ⟨k3, k4, by rw [fi 48 _ (by omega)]; exact k5, k6, fun j q hq => ?_⟩, k8, by rw [fi 51 _ (by omega)]; exact k12⟩
  obtain ⟨a1, a2, a3, a4⟩ := k7 j q hq
  exact ⟨a1, a2, st _ _ a3, a4.kf kf2 hI1 rfl ⟨fun k h1 h2 => (f43 k h1 h2).2.2.2.2.2, rfl⟩ ⟨rfl, rfl, rfl, rfl⟩ (hI1.ref (F := 138) (by decide +kernel) a4.1)⟩
theorem cTypes_eq {g : Nat} {l : List Nat} : cTypes A E (g :: l) = (tType A E g >>= fun _ => cTypes A E l) := by
  rw [cTypes]
theorem ofG {l : List Nat} (hk : k < l.length) : (l.take (k + 1)).map (fun g => (g, ss)) = (l.take k).map (fun g => (g, ss)) ++ [(l[k], ss)] := by
  rw [List.take_succ_eq_append_getElem hk, List.map_append]
  rfl
/-- the groups are checked -/
theorem w_selG {Q : JO → JH → Prop} (hA : NOK A) (ri : RI ρ A.length) (hn : (E.1.map (·.1)).Nodup) (kd : SelR h ρ v y) (xl : ∀ x ∈ slG (smS y), x < A.length ∧ HB A n x ∧ Apt A L x) (ord : (slG (smS y)).Pairwise fun x z => x < ndL (nat_ A z)) (hv : ∀ x, slH (smS y) = some x → x < A.length) (hd : n + 13 ≤ d)
    (hQ : ∀ h1, JInv D h1 → cTypes A E (slG (smS y)) = .ok () → SkP D S A ρ sc E pt (L ++ (slG (smS y)).map fun g => (g, E.1)) ra rb h h1 → W_X40_check_179 D d Q v sc v (if (!(slG (smS y)).isEmpty || (slH (smS y)).isSome) = true then 1 else 0) h1)
    (hX : ∀ z h' c, JInv D h' → cTypes A E (slG (smS y)) = .error c → SkX D S ra rb h h' z c → Q (.inr z) h') :
    ∀ (m k : Nat) (h1 : JH), k + m = (slG (smS y)).length → JInv D h1 → SkP D S A ρ sc E pt (L ++ ((slG (smS y)).take k).map fun g => (g, E.1)) ra rb h h1 → cTypes A E (slG (smS y)) = cTypes A E ((slG (smS y)).drop k) → L_X40_check_134 D d Q (m + 1) v sc (nI k) h1
  | m, k, h1, hm, hI1, P, eq => by
    have kd1 : SelR h1 ρ v y := kd.sf P.1.2.1
    obtain ⟨v0, vk⟩ := kd1.vk
    obtain ⟨aG, xG, c1, c2⟩ := kd1.grp
    obtain ⟨_, hH⟩ := kd1.whe
    refine ⟨v0, fun g => ?_, fun g => ?_⟩
    · rw [c1] at g ⊢
      have := (nI_leI (by omega) (by omega)).mp g
      rw [List.drop_eq_nil_of_le (by omega)] at eq
      rw [List.take_of_length_le (by omega)] at P
      have fin := hQ h1 hI1 eq P
      refine ⟨fun g0 => ?_, fun g0 => ⟨fun g1 => ?_, fun g1 => ?_⟩⟩
      · have ne : (slG (smS y)).isEmpty = false := by
          cases hl : slG (smS y) with
          | nil => rw [hl] at g0; exact absurd g0 (by decide)
          | cons a l => rfl
        rw [ne] at fin
        exact fin
      · have e0 : (slG (smS y)).isEmpty = true := by
          cases hl : slG (smS y) with
          | nil => rfl
          | cons a l =>
            exact absurd (show nI 0 < nI (slG (smS y)).length from nI_lt (by rw [hl]; exact Nat.succ_pos _) (by omega)) g0
        have h0 : slH (smS y) = none := by
          cases hl : slH (smS y) with
          | none => rfl
          | some x =>
            rw [hl] at hH
            have hH : jfr h1 149 v = ρ x := hH
            exact absurd (hH.symm.trans g1) (P.1.2.2.1 x (hv x hl)).1
        rw [e0, h0] at fin
        exact fin
      · have h0 : (slH (smS y)).isSome = true := by
          cases hl : slH (smS y) with
          | none => rw [hl] at hH; exact absurd hH g1
          | some x => rfl
        rw [h0, Bool.or_true] at fin
        exact fin
    · rw [c1] at g
      have kl : k < (slG (smS y)).length := Nat.lt_of_not_le fun z => g ((nI_leI (by omega) (by omega)).mpr z)
      obtain ⟨m', rfl⟩ : ∃ m', m = m' + 1 := ⟨m - 1, by omega⟩
      have hg : (slG (smS y))[k]? = some (slG (smS y))[k] := List.getElem?_eq_getElem kl
      rw [List.drop_eq_getElem_cons kl, cTypes_eq] at eq
      obtain ⟨g1, g2, g3⟩ := xl _ (List.getElem_mem kl)
      have ix : ixn (nI k) = k := ixn_nI (by omega)
      rw [ix, xG k _ hg]
      refine ⟨aG.1, by rw [aG.2.2]; exact jin_nI (by omega) (by decide), (P.1.2.2.1 _ g1).1, useCk1 (w_chkP P hA ri hn hI1 g1 g2 (fun p hp => ?_) (by omega)) ?_ ?_⟩
      · rcases List.mem_append.mp hp with z | z
        · exact g3 p z
        · obtain ⟨g', hg', rfl⟩ := List.mem_map.mp z
          obtain ⟨i, il, hi⟩ := List.getElem_of_mem hg'
          rw [List.getElem_take] at hi
          rw [List.length_take] at il
          refine Or.inl ?_
          rw [← hi]
          exact List.pairwise_iff_getElem.mp ord i k (by omega) kl (by omega)
      · rintro v1 h3 hI3 ⟨t, t1, rfl, t3, t4, t5, P3⟩
        rw [t1, ok_bind] at eq
        rw [List.append_assoc, ← ofG kl] at P3
        show L_X40_check_134 D d Q (m' + 1) v sc (nI k + 1) h3
        rw [nI_1]
        exact w_selG hA ri hn kd xl ord hv hd hQ hX m' (k + 1) h3 (by omega) hI3 P3 eq
      · rintro z h3 hI3 ⟨c, t1, t2⟩
        rw [t1] at eq
        exact hX z h3 c hI3 eq t2
end
