/-! the component: the columns of SELECT are checked -/
section
variable {D : JD} {h h' h'' h0 h1 h2 : JH} {ρ ρ0 : Nat → Nat} {A A0 : List Nod} {E E' : TEnv} {c r i v k j d e sc n B u x z s nm arr cnt ra rb cn t tt τ itq ik : Nat} {y : Stm} {pt : List Nat} {S : Nat → Prop} {w w1 w2 : Str} {L L0 : List (Nat × List (Str × Tab))} {gs : List Nat} {gr : Bool} {cs : List SCol} {nd : Nod} {q q0 : List Nod × List SCol} {ss : List (Str × Tab)} {tb : Tab} {T : List Tab} {X : List Nat} {it : Itm}
/-- the sources of SELECT with their tables -/
def SrT (D : JD) (h : JH) (v e : Nat) (T : List Tab) (y : Stm) (ss : List (Str × Tab)) : Prop :=
  ss.length = (slF (smS y)).length ∧ ∀ (i : Nat) s, (slF (smS y))[i]? = some s → ∃ kk, kk < T.length ∧ ss[i]? = some (s.2.1, tbGet T kk) ∧ jfr h 138 (jar h (jfr h 144 v) i) = tba h (jfr h 20 e) kk
theorem SkI.pp (I : SkI D A0 ρ0 sc E pt L0 v gs gr X q h h1) : KF chkK h h1 ∧ SFg D (stX h v) h h1 ∧ (∀ q, jkd h q ≠ 0 → jfr h1 138 q = jfr h 138 q) ∧ jsz h1 ≤ jsz h + 34 ∧ jus h1 ≤ jus h + 187 ∧ sc ≠ 0 ∧ jfi h1 160 v = (if gr = true then 1 else 0) := by
  obtain ⟨ρ, L, B, eA, lB, hA, ri, hρ, C, LL, LA⟩ := I
  have l16 := C.2.2.2.1.2
  have z1 := C.1.1.2.2.2.2.2.2.1
  have z2 := C.1.1.2.2.2.2.2.2.2
  exact ⟨C.1.1.1, C.1.1.2.1, C.1.1.2.2.2.2.2.1, by omega, by omega, C.1.1.2.2.2.1.1.1, C.2.2.1⟩
theorem SkI.err {c : Str} (I : SkI D A0 ρ0 sc E pt L0 v gs gr X q h h1) (f : FlX h1 h' z c) : SkX D (stX h v) 34 187 h h' z c := by
  obtain ⟨a, b, _, c, d, _⟩ := I.pp
  exact ⟨h1, a, b, c, d, f⟩
theorem tbGet_mem {kk : Nat} (kl : kk < T.length) : tbGet T kk ∈ T ∧ T[kk]? = some (tbGet T kk) := by
  have : tbGet T kk = T[kk] := by unfold tbGet; rw [List.getD_eq_getElem?_getD, List.getElem?_eq_getElem kl]; rfl
  rw [this]
  exact ⟨List.getElem_mem kl, List.getElem?_eq_getElem kl⟩
/-- the source j while columns are checked -/
theorem SkI.src (I : SkI D A0 ρ0 sc E pt L0 v gs gr X q h h1) (hI : JInv D h) (kd : SelR h ρ0 v y) (eb : EnT D h e T) (sr : SrT D h v e T y E.1) (hT : TbT T) {s : Src} (hs : (slF (smS y))[j]? = some s) :
    jfr h1 144 v = jfr h 144 v ∧ AR h1 (jfr h 144 v) 153 3 ∧ jar h1 (jfr h 144 v) j = jar h (jfr h 144 v) j ∧ SrcR h1 ρ0 (jar h (jfr h 144 v) j) s ∧ ∃ kk, kk < T.length ∧ E.1[j]? = some (s.2.1, tbGet T kk) ∧ jfr h1 138 (jar h (jfr h 144 v) j) = tba h (jfr h 20 e) kk ∧ TabC D h1 (tba h (jfr h 20 e) kk) (tbGet T kk).2.1 := by
  obtain ⟨kf, sg, f8, _⟩ := I.pp
  obtain ⟨v0, vk⟩ := kd.vk
  have kd1 : SelR h1 ρ0 v y := kd.sf sg
  obtain ⟨aS, ks, _, _⟩ := kd.src
  obtain ⟨aS1, ks1, _, _⟩ := kd1.src
  have e144 : jfr h1 144 v = jfr h 144 v := (sg.at vk (by decide)).2.2.2.2.1 144 rfl
  have ejs : ∀ i, jar h1 (jfr h 144 v) i = jar h (jfr h 144 v) i := (sg.at aS.2.1 (by decide)).2.2.2.2.2.2 rfl (by decide)
  rw [e144] at aS1 ks1
  have su := ks1 _ s hs
  rw [ejs] at su
  obtain ⟨kk, g1, g2, g3⟩ := sr.2 j s hs
  refine ⟨e144, aS1, ejs j, su, kk, g1, g2, ?_, ?_⟩
  · rw [f8 _ (by rw [(ks j s hs).2.1]; decide)]; exact g3
  · exact ((eb.2.2.2.2 kk _ (tbGet_mem g1).2).kf kf hI ktb_chk).tabC (hT _ (tbGet_mem g1).1)
theorem cStarT_eq {cc : Col} {l : List Col} : cStarT gr E gs w (cc :: l) q = (cStar1 gr E gs w cc q >>= fun q => cStarT gr E gs w l q) := by
  rw [cStarT]
theorem w_colT {Q : JO → JH → Prop} {K91 : Nat → Nat → Nat → Int32 → Int32 → JH → Prop} {x3 : Int32} {s : Src} (hn : (E.1.map (·.1)).Nodup) (ebn : EnB E) (hI : JInv D h) (kd : SelR h ρ0 v y) (ow : OW h) (eb : EnT D h e T) (sr : SrT D h v e T y E.1) (hT : TbT T) (hK : TbK T) (gl : ∀ g ∈ gs, g < A0.length ∧ (g, E.1) ∈ L0) (hs : (slF (smS y))[j]? = some s) (hj : E.1[j]? = some (s.2.1, tb)) (hd : 30 ≤ d)
    (hQ : ∀ q' h', JInv D h' → cStarT gr E gs s.2.1 tb.2.1 q0 = .ok q' → SkI D A0 ρ0 sc E pt L0 v gs gr X q' h h' → K91 v itq sc x3 (nI (j + 1)) h')
    (hX : ∀ z h' c, JInv D h' → cStarT gr E gs s.2.1 tb.2.1 q0 = .error c → SkX D (stX h v) 34 187 h h' z c → Q (.inr z) h') :
    ∀ (m i : Nat) (q : List Nod × List SCol) (h1 : JH), i + m = tb.2.1.length → JInv D h1 → SkI D A0 ρ0 sc E pt L0 v gs gr X q h h1 → cStarT gr E gs s.2.1 tb.2.1 q0 = cStarT gr E gs s.2.1 (tb.2.1.drop i) q → L_X40_column_135 D d Q K91 (m + 1) v itq sc x3 (nI j) (nI i) h1
  | m, i, q, h1, hm, hI1, I, eq => by
    obtain ⟨v0, vk⟩ := kd.vk
    obtain ⟨e144, aS, ejs, su, kk, g1, g2, g3, tc⟩ := I.src hI kd eb sr hT hs
    rw [hj] at g2
    have etb : tb = tbGet T kk := by
      have : (s.2.1, tb) = (s.2.1, tbGet T kk) := Option.some.inj g2
      exact (Prod.mk.inj this).2
    rw [← etb] at tc
    have j3 : j < 3 := by
      have := kd.src.2.2.2
      have := (List.getElem?_eq_some_iff.mp hs).1
      omega
    obtain ⟨t1, t2, t3, t4, t5, t6, t7⟩ := tc
    have ixj : ixn (nI j) = j := ixn_nI (by omega)
    have ixi : ixn (nI i) = i := ixn_nI (by omega)
    refine ⟨v0, ?_⟩
    rw [e144, ixj, ejs, g3, t4]
    refine ⟨aS.1, by rw [aS.2.2]; exact jin_nI (by omega) (by decide), su.1, t1, fun g => ?_, fun g => ?_⟩
    · have := (nI_leI (by omega) (by omega)).mp g
      rw [List.drop_eq_nil_of_le (by omega)] at eq
      show K91 v itq sc x3 (nI j + 1) h1
      rw [nI_1]
      exact hQ q h1 hI1 eq I
    · have kl : i < tb.2.1.length := Nat.lt_of_not_le fun z => g ((nI_leI (by omega) (by omega)).mpr z)
      obtain ⟨m', rfl⟩ : ∃ m', m = m' + 1 := ⟨m - 1, by omega⟩
      have hcc : tb.2.1[i]? = some tb.2.1[i] := List.getElem?_eq_getElem kl
      have hmm := List.getElem_mem kl
      rw [List.drop_eq_getElem_cons kl, cStarT_eq] at eq
      obtain ⟨cc, ecc⟩ : ∃ cc, tb.2.1[i] = cc := ⟨_, rfl⟩
      rw [ecc] at hcc hmm eq
      obtain ⟨cr, _⟩ := t7 i cc hcc
      have hk1 := hK _ (tbGet_mem g1).1
      rw [← etb] at hk1
      obtain ⟨nc, l20⟩ := hk1
      rw [ixi]
      refine ⟨by rw [aS.2.2]; exact jin_nI (by omega) (by decide), by rw [aS.2.2]; exact jin_nI (by omega) (by decide), t3, ?_, cr.1, ?_⟩
      · have : i < jln h1 (jfr h1 43 (tba h (jfr h 20 e) kk)) := by omega
        exact jin_nI this (by omega)
      · refine w_star1 (i := i) (j := j) (tb := tb) (cc := cc) I hn ebn hI hI1 kd ow gl su.2.2.2.1 cr.2.2.1 (l20 cc hmm) hj nc hcc hd (fun q' h' hI' f1 I' => ?_) (fun z h' c hI' f1 f2 => ?_)
        · rw [f1, ok_bind] at eq
          rw [nI_1]
          exact w_colT hn ebn hI kd ow eb sr hT hK gl hs hj hd hQ hX m' (i + 1) q' h' (by omega) hI' I' eq
        · rw [f1] at eq
          exact hX z h' c hI' eq f2
def ofM (o : Option Str) (a : Str × Tab) : Bool := o.all (· == a.1)
theorem cStars_eq {of : Option Str} {a : Str × Tab} {l : List (Str × Tab)} : cStars gr E gs of (a :: l) q = ((if ofM of a = true then cStarT gr E gs a.1 a.2.2.1 q else .ok q) >>= fun q => cStars gr E gs of l q) := by
  rw [cStars]; rfl
/-- the item is as it was -/
theorem SkI.itm (I : SkI D A0 ρ0 sc E pt L0 v gs gr X q h h1) (kd : SelR h ρ0 v y) (hk : (slI (smS y))[ik]? = some it) : jfr h1 142 v = jfr h 142 v ∧ AR h1 (jfr h 142 v) 152 12 ∧ jar h1 (jfr h 142 v) ik = jar h (jfr h 142 v) ik ∧ ItmR h1 ρ0 (jar h (jfr h 142 v) ik) it := by
  obtain ⟨kf, sg, f8, _⟩ := I.pp
  obtain ⟨v0, vk⟩ := kd.vk
  have kd1 : SelR h1 ρ0 v y := kd.sf sg
  obtain ⟨aS, ks, _⟩ := kd.itm
  obtain ⟨aS1, ks1, _⟩ := kd1.itm
  have e144 : jfr h1 142 v = jfr h 142 v := (sg.at vk (by decide)).2.2.2.2.1 142 rfl
  have ejs : ∀ i, jar h1 (jfr h 142 v) i = jar h (jfr h 142 v) i := (sg.at aS.2.1 (by decide)).2.2.2.2.2.2 rfl (by decide)
  rw [e144] at aS1 ks1
  have su := ks1 _ it hk
  rw [ejs] at su
  exact ⟨e144, aS1, ejs ik, su⟩
theorem w_colS {Q : JO → JH → Prop} (hn : (E.1.map (·.1)).Nodup) (ebn : EnB E) (hI : JInv D h) (kd : SelR h ρ0 v y) (ow : OW h) (eb : EnT D h e T) (sr : SrT D h v e T y E.1) (hT : TbT T) (hK : TbK T) (gl : ∀ g ∈ gs, g < A0.length ∧ (g, E.1) ∈ L0) (hk : (slI (smS y))[ik]? = some it) (his : it.1 = true) (hd : 30 ≤ d)
    (hQ : ∀ q' h', JInv D h' → cStars gr E gs it.2.1 E.1 q0 = .ok q' → (E.1.any (ofM it.2.1)) = true → SkI D A0 ρ0 sc E pt L0 v gs gr X q' h h' → Q (.inl none) h')
    (hY : ∀ z h', JInv D h' → (E.1.any (ofM it.2.1)) = false → SkX D (stX h v) 34 187 h h' z (sStr "42P01") → Q (.inr z) h')
    (hX : ∀ z h' c, JInv D h' → (E.1.any (ofM it.2.1)) = true → cStars gr E gs it.2.1 E.1 q0 = .error c → SkX D (stX h v) 34 187 h h' z c → Q (.inr z) h') :
    ∀ (m k : Nat) (q : List Nod × List SCol) (h1 : JH), k + m = E.1.length → JInv D h1 → SkI D A0 ρ0 sc E pt L0 v gs gr X q h h1 → cStars gr E gs it.2.1 E.1 q0 = cStars gr E gs it.2.1 (E.1.drop k) q → L_X40_column_91 D d Q (m + 1) v (jar h (jfr h 142 v) ik) sc (if ((E.1.take k).any (ofM it.2.1)) = true then 1 else 0) (nI k) h1
  | m, k, q, h1, hm, hI1, I, eq => by
    obtain ⟨v0, vk⟩ := kd.vk
    obtain ⟨kf, sg, f8, z1, z2, sc0, f160⟩ := I.pp
    have kd1 : SelR h1 ρ0 v y := kd.sf sg
    obtain ⟨_, _, c1, c2⟩ := kd1.src
    have le := sr.1
    refine ⟨v0, fun g => ?_, fun g => ?_⟩
    · rw [c1] at g
      have := (nI_leI (by omega) (by omega)).mp g
      rw [List.drop_eq_nil_of_le (by omega)] at eq
      rw [List.take_of_length_le (by omega)]
      refine ⟨fun g1 => ?_, fun g1 => ?_⟩
      · refine hQ q h1 hI1 eq ?_ I
        cases z : E.1.any (ofM it.2.1) with
        | true => rfl
        | false => rw [z] at g1; exact absurd rfl g1
      · refine useR0 (w_fault (w := "42P01") ⟨by decide, by decide +kernel⟩ (by omega)) ?_
        rintro z h6 hI6 _ ⟨y1, y2⟩
        refine ⟨y1, hY z h6 hI6 ?_ (I.err (y2.fx (by decide +kernel)))⟩
        cases z : E.1.any (ofM it.2.1) with
        | false => rfl
        | true => rw [z] at g1; exact absurd g1 (by decide)
    · rw [c1] at g
      have kl : k < E.1.length := Nat.lt_of_not_le fun z => g ((nI_leI (by omega) (by omega)).mpr (by omega))
      obtain ⟨m', rfl⟩ : ∃ m', m = m' + 1 := ⟨m - 1, by omega⟩
      have hs : (slF (smS y))[k]? = some ((slF (smS y))[k]'(by omega)) := List.getElem?_eq_getElem (by omega)
      generalize (slF (smS y))[k]'(by omega) = s at hs
      obtain ⟨e144, aS, ejs, su, kk, g1, g2, g3, tc⟩ := I.src hI kd eb sr hT hs
      obtain ⟨_, _, _, ir⟩ := I.itm kd hk
      have is1 := ir.2.2.2.1 his
      have at_ := any_take (f := ofM it.2.1) kl
      obtain ⟨kl', ke⟩ := List.getElem?_eq_some_iff.mp g2
      rw [List.drop_eq_getElem_cons kl, ke, cStars_eq] at eq
      rw [ke] at at_
      have tk1 : ofM it.2.1 (s.2.1, tbGet T kk) = true → ((E.1.take (k + 1)).any (ofM it.2.1)) = true := fun z => by rw [at_, z, Bool.or_true]
      have ixk : ixn (nI k) = k := ixn_nI (by omega)
      have go : ofM it.2.1 (s.2.1, tbGet T kk) = true → W_X40_column_130 D d Q (L_X40_column_91 D d Q (m' + 1)) v (jar h (jfr h 142 v) ik) sc (nI k) h1 := fun om => by
        rw [if_pos om] at eq
        have any1 : E.1.any (ofM it.2.1) = true := List.any_eq_true.mpr ⟨_, List.mem_of_getElem? g2, om⟩
        refine ⟨(tbGet T kk).2.1.length + 1, w_colT (q0 := q) (X := X) (A0 := A0) (ρ0 := ρ0) (L0 := L0) hn ebn hI kd ow eb sr hT hK gl hs g2 hd (fun q' h' hI' f1 I' => ?_) (fun z h' c hI' f1 f2 => ?_) (tbGet T kk).2.1.length 0 q h1 (by omega) hI1 I (by rw [List.drop_zero])⟩
        · dsimp only at eq
          rw [f1, ok_bind] at eq
          have := w_colS hn ebn hI kd ow eb sr hT hK gl hk his hd hQ hY hX m' (k + 1) q' h' (by omega) hI' I' eq
          rw [tk1 om, if_pos rfl] at this
          exact this
        · dsimp only at eq
          rw [f1] at eq
          exact hX z h' c hI' any1 eq f2
      have skip : ofM it.2.1 (s.2.1, tbGet T kk) = false → L_X40_column_91 D d Q (m' + 1) v (jar h (jfr h 142 v) ik) sc (if ((E.1.take k).any (ofM it.2.1)) = true then 1 else 0) (nI k + 1) h1 := fun om => by
        rw [if_neg (show ¬ ofM it.2.1 (s.2.1, tbGet T kk) = true by rw [om]; decide), ok_bind] at eq
        have := w_colS hn ebn hI kd ow eb sr hT hK gl hk his hd hQ hY hX m' (k + 1) q h1 (by omega) hI1 I eq
        rw [at_, om, Bool.or_false] at this
        rw [nI_1]
        exact this
      rw [e144, ixk, ejs]
      refine ⟨ir.1, fun g5 => ?_, fun g5 => ⟨aS.1, by rw [aS.2.2]; exact jin_nI (by omega) (by decide), su.1, su.2.2.2.1.1, ?_⟩⟩
      · cases ho : it.2.1 with
        | none => exact go (by rw [ho]; rfl)
        | some w => rw [ho] at is1; exact absurd g5 is1.1
      · cases ho : it.2.1 with
        | none => rw [ho] at is1; exact absurd is1 g5
        | some w =>
          rw [ho] at is1
          have is1 : StR h1 (jfr h1 162 (jar h (jfr h 142 v) ik)) w := is1
          refine JW.up (n := 2) (fun dd => useI0 (k_equals (d := dd) su.2.2.2.1 is1) ?_) (by omega)
          rintro v3 h4 hI4 _ ⟨rfl, he4⟩
          have he4 := he4.symm
          subst he4
          by_cases ec : s.2.1 = w
          · rw [if_pos ec]
            exact ⟨fun _ => go (by rw [ho, ec]; exact beq_self_eq_true _), fun z => absurd z (by decide)⟩
          · rw [if_neg ec]
            refine ⟨fun z => absurd rfl z, fun _ => ?_⟩
            rw [← ho]
            refine skip ?_
            rw [ho]
            show (w == s.2.1) = false
            simpa using fun z => ec z.symm
end
