/-! the component: the orders of SELECT are checked -/
section
variable {D : JD} {h h' h'' h0 h1 h2 h3 : JH} {ρ ρ0 : Nat → Nat} {A A0 : List Nod} {E E' : TEnv} {c r i v k j d e sc n B u x z s nm arr cnt ra rb cn t tt τ itq ik : Nat} {y : Stm} {pt : List Nat} {S : Nat → Prop} {w w1 w2 : Str} {L L0 : List (Nat × List (Str × Tab))} {gs : List Nat} {gr ds : Bool} {cs : List SCol} {nd : Nod} {q q0 : List Nod × List SCol} {ss : List (Str × Tab)} {tb : Tab} {T : List Tab} {X : List Nat} {it : Itm} {os : List (Nat ⊕ Nat)} {st : List Nat} {is : List Itm}
theorem SkC.pai {b : Int32} (C : SkC D A ρ sc E pt L ra rb v gs gr cs cn h h1) (hA : NOK A) (hI1 : JInv D h1) (hr : wkA (jkd h1 r) = true) : SkC D A ρ sc E pt L ra rb v gs gr cs cn h (wai h1 r i b) := by
  obtain ⟨P1, G, f160, ⟨f159, l16⟩, cl, ⟨s1, s2, s3, s4⟩⟩ := C
  have sf2 : SF D h1 (wai h1 r i b) := SF.pai hr
  have P2 := P1.mv (a := 0) (b := 0) hA hI1 (KF.pai hr) sf2.up (P1.1.2.2.1.sf sf2 hA hI1) (P1.1.2.2.2.1.pai hr) rfl (fun _ _ => rfl) (Nat.le_refl _) (Nat.le_refl _) (fun _ _ _ _ => rfl)
  refine ⟨P2, G, f160, ⟨f159, l16⟩, fun i cc hc => ?_, fun i hi => ?_, s2, s3, s4⟩
  · obtain ⟨a1, a2, a3, a4, a5⟩ := cl i cc hc
    exact ⟨a1, a2.pai hr, a3, a4, a5⟩
  · rcases s1 i hi with z | z
    · exact Or.inl z
    · exact Or.inr (z.sf sf2 hI1)
/-- what the orders go by -/
def OrR (h h1 : JH) (v : Nat) (E : TEnv) (q : List Nod × List SCol) (ds : Bool) (L : List (Nat × List (Str × Tab))) (os : List (Nat ⊕ Nat)) : Prop := ∀ (i : Nat) o, os[i]? = some o → match o with
  | .inl c => jai h1 (jfr h 152 v) i = nI c ∧ c < q.2.length
  | .inr x => (x, E.1) ∈ L ∧ (ds = false → jai h1 (jfr h 152 v) i = -1) ∧ (ds = true → ∃ c cc, q.2[c]? = some cc ∧ jai h1 (jfr h 152 v) i = nI c ∧ tEqual q.1 q.1 E (cc.1 + 1) cc.1 x = true)
def SkO (D : JD) (A0 : List Nod) (ρ0 : Nat → Nat) (sc : Nat) (E : TEnv) (pt : List Nat) (L0 : List (Nat × List (Str × Tab))) (v : Nat) (gs : List Nat) (gr ds : Bool) (X : List Nat) (q : List Nod × List SCol) (os : List (Nat ⊕ Nat)) (h h1 : JH) : Prop :=
  ∃ ρ L B, (q.1 = A0 ++ B ∧ B.length ≤ q.2.length ∧ NOK q.1 ∧ RI ρ q.1.length ∧ (∀ i, i < A0.length → ρ i = ρ0 i) ∧ SkC D q.1 ρ sc E pt L (2 * B.length) (11 * B.length) v gs gr q.2 q.2.length h h1 ∧ (∀ p ∈ L0, p ∈ L) ∧ ∀ p ∈ L, p ∈ L0 ∨ p.1 ∈ X ∨ (A0.length ≤ p.1 ∧ ndL (nat_ q.1 p.1) = p.1)) ∧ OrR h h1 v E q ds L os
theorem SkO.toI (O : SkO D A0 ρ0 sc E pt L0 v gs gr ds X q os h h1) : SkI D A0 ρ0 sc E pt L0 v gs gr X q h h1 := by
  obtain ⟨ρ, L, B, a, _⟩ := O
  exact ⟨ρ, L, B, a⟩
theorem SkI.o (I : SkI D A0 ρ0 sc E pt L0 v gs gr X q h h1) : SkO D A0 ρ0 sc E pt L0 v gs gr ds X q [] h h1 := by
  obtain ⟨ρ, L, B, a⟩ := I
  exact ⟨ρ, L, B, a, fun i o ho => by simp at ho⟩
theorem oNm_lt (l16 : cs.length ≤ 16) (hlen : cs.length = isum E is is.length) (e : oNm E is A cs x = .ok (some c)) : c < cs.length := by
  unfold oNm at e
  split at e
  · split at e
    · rename_i z
      rw [Bool.and_eq_true, decide_eq_true_eq, decide_eq_true_eq] at z
      obtain ⟨k, b1, b2, b3⟩ := i64_small l16 z.1 z.2
      have := (i64_tab k (by omega) b1).2
      rw [b3, this] at e
      cases e
      omega
    · cases e
  · split at e
    · cases hc : cNamed is (ndS (nat_ A x)) with
      | none => rw [hc] at e; cases e
      | some k =>
        rw [hc] at e
        cases e
        unfold cNamed at hc
        rw [List.findIdx?_eq_some_iff_getElem] at hc
        obtain ⟨kl, k1, _⟩ := hc
        rw [Bool.and_eq_true] at k1
        have is1 : isum E is (k + 1) = isum E is k + iwd E is[k] := by
          unfold isum
          rw [List.take_succ_eq_append_getElem kl, List.map_append, List.sum_append]
          rfl
        have ew : iwd E is[k] = 1 := by
          unfold iwd
          rw [if_neg]
          intro z
          rw [z] at k1
          exact absurd k1.1 (by decide)
        have := isum_le (E := E) (show k + 1 ≤ is.length from kl) is
        omega
    · cases e
theorem cOrder_eq (hst : ∀ k, k < is.length → st.getD k 0 = isum E is k) : cOrder gr ds E gs is st A cs x = (oNm E is A cs x >>= fun o => match o with
    | some c => .ok (.inl c)
    | none => (tType A E x >>= fun _ => cApart gr A E gs x >>= fun _ => xMust (!ds || cs.any fun c => tEqual A A E (x + 1) x c.1) "42P10" >>= fun _ => .ok (.inr x))) := by
  unfold cOrder oNm
  dsimp only
  rw [show A.getD x nNone = nat_ A x from rfl]
  split
  · split
    · rfl
    · rfl
  · rw [ok_bind]
    cases hc : (if (ndO (nat_ A x) == 2 && (ndF (nat_ A x)).isNone) = true then cNamed is (ndS (nat_ A x)) else none) with
    | none => rfl
    | some k =>
      show Except.ok (Sum.inl (st.getD k 0)) = Except.ok (Sum.inl (isum E is k))
      rw [hst k]
      split at hc
      · unfold cNamed at hc
        exact (List.findIdx?_eq_some_iff_getElem.mp hc).1
      · cases hc
theorem w_ordK {Q : JO → JH → Prop} (C : SkC D A ρ sc E pt L ra rb v gs gr cs cn h h3) (hA : NOK A) (ebn : EnB E) (hI3 : JInv D h3) (kd : SelR h ρ0 v y) (hB : ∀ p ∈ L, HB A n p.1) (xL : (x, E.1) ∈ L) (k8 : k < 8) (eo : jar h3 (jfr h3 150 v) k = ρ x) (ej : jai h3 (jfr h 152 v) k = -1) (hd : 2 * n + 10 ≤ d)
    (f1 : ∀ c cc, cs[c]? = some cc → tEqual A A E (cc.1 + 1) cc.1 x = true → Q (.inl none) (wai h3 (jfr h 152 v) k (nI c))) (f2 : (cs.any fun c => tEqual A A E (c.1 + 1) c.1 x) = false → ∀ z h', JInv D h' → Flt h3 h' z (sStr "42P10") → Q (.inr z) h') :
    ∀ (m c : Nat), c + m = cs.length → (∀ (j : Nat) cc, j < c → cs[j]? = some cc → tEqual A A E (cc.1 + 1) cc.1 x = false) → L_X40_order_64 D d Q (m + 2) v (nI k) (nI c) h3
  | m, c, hm, nf => by
    obtain ⟨P1, G, f160, ⟨f159, l16⟩, cl, _⟩ := id C
    have sg := P1.1.2.1
    have kd3 : SelR h3 ρ0 v y := kd.sf sg
    obtain ⟨v0, vk⟩ := kd.vk
    have fv := (sg.at vk (by decide)).2.2.2.2.1
    have a2 := kd3.arr (a := (152, 157, 8)) (by decide)
    have a6 := kd3.arr (a := (156, 158, 16)) (by decide)
    have a0 := kd3.arr (a := (150, 155, 8)) (by decide)
    have a2 : AR h3 (jfr h 152 v) 157 8 := by rw [← fv 152 rfl]; exact a2
    have a6 : AR h3 (jfr h 156 v) 158 16 := by rw [← fv 156 rfl]; exact a6
    have e152 := fv 152 rfl
    have e156 := fv 156 rfl
    have ixk : ixn (nI k) = k := ixn_nI (by omega)
    have ixc : ixn (nI c) = c := ixn_nI (by omega)
    refine ⟨v0, fun g => ?_, fun g => ?_⟩
    · rw [f159] at g
      have := (nI_leI (by omega) (by omega)).mp g
      refine ⟨v0, ?_⟩
      rw [e152, ixk, ej]
      refine ⟨a2.1, by rw [a2.2.2]; exact jin_nI k8 (by decide), fun g1 => absurd g1 (by decide), fun _ => ?_⟩
      refine useR0 (w_fault (w := "42P10") ⟨by decide, by decide +kernel⟩ (by omega)) ?_
      rintro z h6 hI6 _ ⟨y1, y2⟩
      refine ⟨y1, f2 ?_ z h6 hI6 y2⟩
      rw [List.any_eq_false]
      intro cc hcc
      obtain ⟨j, jl, hj⟩ := List.getElem_of_mem hcc
      rw [nf j cc (by omega) (by rw [List.getElem?_eq_getElem jl, hj])]
      decide
    · rw [f159] at g
      have kl : c < cs.length := Nat.lt_of_not_le fun z => g ((nI_leI (by omega) (by omega)).mpr z)
      obtain ⟨m', rfl⟩ : ∃ m', m = m' + 1 := ⟨m - 1, by omega⟩
      have hcc : cs[c]? = some cs[c] := List.getElem?_eq_getElem kl
      generalize cs[c] = cc at hcc
      obtain ⟨b1, b2, b3, b4, b5⟩ := cl c cc hcc
      rw [e152, ixk, ej]
      refine ⟨a2.1, by rw [a2.2.2]; exact jin_nI k8 (by decide), fun g1 => absurd g1 (by decide), fun _ => ?_⟩
      rw [e156, ixc, b1, eo]
      obtain ⟨p1, p2⟩ := P1.2 _ b5
      obtain ⟨p3, p4⟩ := P1.2 _ xL
      refine ⟨a6.1, by rw [a6.2.2]; exact jin_nI (by omega) (by decide), a0.1, by rw [a0.2.2]; exact jin_nI k8 (by decide), (P1.1.2.2.1 _ p1).1, useLike (w_like hA P1.1.2.2.1 hI3 ebn (cc.1 + 1) cc.1 x d n (by omega) p1 p3 (hB _ b5) hd (p2.env rfl) (p4.env rfl)) ?_⟩
      rintro b h4 hI4 _ ⟨rfl, he4⟩
      have he4 := he4.symm
      subst he4
      cases z : tEqual A A E (cc.1 + 1) cc.1 x with
      | false =>
        refine ⟨fun _ => ?_, fun g => absurd rfl g⟩
        show L_X40_order_64 D d Q (m' + 1 + 1) v (nI k) (nI c + 1) h3
        rw [nI_1]
        exact w_ordK C hA ebn hI3 kd hB xL k8 eo ej hd f1 f2 m' (c + 1) (by omega) fun j c' hj hc' => by
          by_cases jk : j < c
          · exact nf j c' jk hc'
          · have : j = c := by omega
            rw [this, hcc] at hc'
            cases hc'
            exact z
      | true =>
        refine ⟨fun g => absurd g (by decide), fun _ => ⟨v0, ?_⟩⟩
        rw [e152, ixk]
        refine ⟨a2.1, by rw [a2.2.2]; exact jin_nI k8 (by decide), ?_⟩
        rintro h5 rfl
        have fin := f1 c cc hcc z
        have ej5 : jai (wai h3 (jfr h 152 v) k (nI c)) (jfr h 152 v) k = nI c := by rw [jai_wai, if_pos ⟨rfl, rfl⟩]
        have e152' : jfr (wai h3 (jfr h 152 v) k (nI c)) 152 v = jfr h 152 v := e152
        have pos : (0 : Int32) ≤ nI c := nI_pos' (by omega)
        have w112 : W_X40_order_112 D d Q v (nI k) (wai h3 (jfr h 152 v) k (nI c)) := by
          refine ⟨v0, ?_⟩
          rw [e152', ixk, ej5]
          exact ⟨a2.1, by show jin _ (jln h3 (jfr h 152 v)); rw [a2.2.2]; exact jin_nI k8 (by decide), fun _ => fin, fun g => absurd pos g⟩
        show L_X40_order_64 D d Q (m' + 1 + 1) v (nI k) (nI c + 1) (wai h3 (jfr h 152 v) k (nI c))
        refine ⟨v0, fun _ => w112, fun _ => ?_⟩
        rw [e152', ixk, ej5]
        exact ⟨a2.1, by show jin _ (jln h3 (jfr h 152 v)); rw [a2.2.2]; exact jin_nI k8 (by decide), fun _ => w112, fun g => absurd pos g⟩
end
