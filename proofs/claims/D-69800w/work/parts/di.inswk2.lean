/-! the component: a new row of INSERT is worked out -/
section
variable {D : JD} {h h' h'' h0 h1 h2 : JH} {ρ : Nat → Nat} {A : List Nod} {E : TEnv} {K K' : Nat → Bool} {q c t u B e sc b i j k v n d xn : Nat} {M : Nat → Prop} {tb tb' : Tab} {T T' S : List Tab} {pv : List Val} {pt : List Nat} {ra rb : Int} {y : Stm} {x : Val} {f : Nat → Option (List Val)} {R : TRow} {ps : List Nat}
theorem EnvP.nil (k : EnvP D h sc pv) : EnvR D h sc ([], pt, false) [] pv := ⟨k.1, ⟨k.2.1.1, k.2.1.2, Nat.zero_le _, fun j t ht => by simp at ht⟩, k.2.2.1⟩
theorem w_ins48 {Q : JO → JH → Prop} {K2 : Nat → Nat → Int32 → JH → Prop} {row : List Nat} (C : EvC (smA y) ([], pt, false) ([], pt, false) ρ pv []) (hI : JInv D h) (kd : InsR h ρ v y) (hsc : jfr h 23 e = sc) (hj : j < 20) (hrow : (smR y)[j]? = some row) (lr : row.length = ps.length) (hps : ∀ (j z : Nat), ps[j]? = some z → jai h (jfr h 106 v) j = nI z ∧ z < tb.2.1.length) (etb : T[k]? = some tb) (et : jfr h 107 v = tba h (jfr h 20 e) k) (xl : ∀ x ∈ row, x < (smA y).length ∧ HB (smA y) n x ∧ ∃ ty, tType (smA y) ([], pt, false) x = .ok ty) (xa : ∀ r ∈ smR y, ∀ x ∈ r, x < (smA y).length) (hd : 2 * n + 21 ≤ d)
    (hQ : ∀ h1 vs, JInv D h1 → WkS D (smA y) ρ e sc T S pv ra rb h h1 → sVals (eVal (smA y) ([], pt, false) pv [] []) row [] = .ok vs → rMiss tb.2.1 (rSet (List.replicate tb.2.1.length vNull) ps vs) = false → ScR D h1 e (upF f j (rSet (List.replicate tb.2.1.length vNull) ps vs)) → (∀ r ∈ smR y, ∀ x ∈ r, PlA (smA y) ([], pt, false) h1 ρ x) → K2 v e (nI (j + 1)) h1)
    (hX : ∀ z h' c, JInv D h' → (sVals (eVal (smA y) ([], pt, false) pv [] []) row [] >>= fun vs => xMust (!rMiss tb.2.1 (rSet (List.replicate tb.2.1.length vNull) ps vs)) "23502") = .error c → WkX D e T S ra rb h h' z c → Q (.inr z) h') :
    ∀ (m k' : Nat) (vs : List Val) (h1 : JH), k' + m = ps.length → vs.length = k' → JInv D h1 → WkS D (smA y) ρ e sc T S pv ra rb h h1 → ScR D h1 e (upF f j (rSet (List.replicate tb.2.1.length vNull) (ps.take k') vs)) → (∀ r ∈ smR y, ∀ x ∈ r, PlA (smA y) ([], pt, false) h1 ρ x) → sVals (eVal (smA y) ([], pt, false) pv [] []) row [] = sVals (eVal (smA y) ([], pt, false) pv [] []) (row.drop k') vs → L_X23_work_48 D d Q K2 (m + 1) v e (nI j) (jar h1 (jfr h1 31 e) j) (nI k') h1
  | m, k', vs, h1, hm, hvl, hI1, W, sr, pl, eq => by
    have hA := C.1
    have kd1 : InsR h1 ρ v y := kd.sf W.2.1
    obtain ⟨N, ⟨_, v0, vk⟩, _, _, _, ⟨_, aR⟩, ⟨_, aW⟩, ⟨c3, c4⟩, aA, rws⟩ := kd1
    obtain ⟨N0, ⟨_, _, vk0⟩, _, _, _, _, _, _, aA0, _⟩ := id kd
    obtain ⟨⟨_, aX, xX⟩, lw, l10⟩ := rws.1 j row hrow
    have sv : same h h1 v := W.1.obj hI (by rw [vk0]; decide) (by rw [vk0]; decide) (by rw [vk0]; rfl)
    have sA : same h h1 (jfr h 106 v) := W.1.obj hI (by rw [aA0.2.1]; decide) (by rw [aA0.2.1]; decide) (by rw [aA0.2.1]; rfl)
    have w4 := W.2.2.2.1
    have w8 := W.2.2.2.2.2.2.2.1
    have ek := W.2.2.2.2.2.2.2.2.2
    have tR : TabR D h1 (tba h (jfr h 20 e) k) tb := by
      rw [← w8 k]
      exact w4.2.1.2.2.2 k tb etb
    have w10 := tR.2.2.1.2.2.2.1
    obtain ⟨k1, k2, k3, k4⟩ := sr j _ upd_eq
    rw [rSet_len, List.length_replicate] at k3 k4
    have ru := (ek.2.2.2.2 j k1).resolve_left k2
    have ixj : ixn (nI j) = j := ixn_nI (by omega)
    have ixk : ixn (nI k') = k' := ixn_nI (by omega)
    refine ⟨v0, aW.1, by rw [aW.2.2]; exact jin_nI (by omega) (by decide), ?_⟩
    rw [ixj, lw]
    refine ⟨fun g => ?_, fun g => ?_⟩
    · have := (nI_leI (by omega) (by omega)).mp g
      have ek' : k' = ps.length := by omega
      rw [ek', List.drop_eq_nil_of_le (by omega)] at eq
      rw [ek', List.take_of_length_le (Nat.le_refl _)] at sr k4
      have eq : sVals (eVal (smA y) ([], pt, false) pv [] []) row [] = .ok vs := eq
      rw [sv.fr, et]
      refine ⟨tR.1.1.1, useV (w_tmissing (vs := rSet (List.replicate tb.2.1.length vNull) ps vs) tR ⟨k2, by rw [rSet_len, List.length_replicate, ru.2.2.1]; exact w10, by rw [ru.2.2.1]; decide, fun c' x hx => ?_⟩ (by rw [rSet_len, List.length_replicate]) (by omega)) ?_ ?_⟩
      · have cl := (List.getElem?_eq_some_iff.mp hx).1
        rw [rSet_len, List.length_replicate] at cl
        have := k4 c' cl
        rw [List.getD_eq_getElem?_getD, hx] at this
        exact this
      · rintro h2 hI2 _ ⟨m1, he2⟩
        have he2 := he2.symm
        subst he2
        rw [nI_1]
        exact hQ h1 vs hI1 W eq m1 sr pl
      · rintro z h2 hI2 _ ⟨m1, f1⟩
        refine hX z h2 _ hI2 ?_ (W.x (f1.fx (by decide +kernel)))
        rw [eq, ok_bind, m1]
        rfl
    · have kl : k' < ps.length := Nat.lt_of_not_le fun z => g ((nI_leI (by omega) (by omega)).mpr (by omega))
      obtain ⟨m', rfl⟩ : ∃ m', m = m' + 1 := ⟨m - 1, by omega⟩
      have hpk : ps[k']? = some ps[k'] := List.getElem?_eq_getElem kl
      have hx : row[k']? = some (row[k']'(by omega)) := List.getElem?_eq_getElem (by omega)
      have htk : ps.take (k' + 1) = ps.take k' ++ [ps[k']] := List.take_succ_eq_append_getElem kl
      rw [List.drop_eq_getElem_cons (by omega : k' < row.length), sVals_eq] at eq
      generalize ps[k'] = p at hpk htk
      generalize row[k']'(by omega) = xx at hx eq
      obtain ⟨p1, p2⟩ := hps k' p hpk
      have hxm := List.mem_of_getElem? hx
      obtain ⟨x1, x2, ty, x3⟩ := xl xx hxm
      have ep : jai h1 (jfr h1 106 v) k' = nI p := by rw [sv.fr, sA.ai]; exact p1
      rw [ixk, ep, ixn_nI (by omega), xX k' xx hx, (W.2.2.2.2.2.1 23).trans hsc]
      refine ⟨aA.1, by rw [aA.2.2]; exact jin_nI (by omega) (by decide), k2, by rw [ru.2.2.1]; exact jin_nI (by omega) (by decide), aR.1, by rw [aR.2.2]; exact jin_nI (by omega) (by decide), aX.1, by rw [aX.2.2]; exact jin_nI (by omega) (by decide), w4.1.1, (W.2.2.1 xx x1).1, useAt (w_evT W C rfl hI1 W.2.2.2.2.1.nil (fun k t r hk => by simp at hk) x1 x2 (pl row (List.mem_of_getElem? hrow) xx hxm) x3 (by omega)) ?_ ?_⟩
      · rintro va h2 _ hI2 ⟨wv, a1, _, a3, a4, _, W2⟩
        rw [a1, ok_bind] at eq
        have h56 := W.2.2.2.2.1.2.1.1
        have ow : OW h1 := w4.2.2.2.2.2
        have ks := a4.eks hI1 ow W.2.2.1 h56
        have se31 : jfr h2 31 e = jfr h1 31 e := a4.2.2.2.2.1 31 e (by decide) (by decide)
        have sr2 := sr.ks ek ks hI1 kwk_ev se31
        have pl2 : ∀ r ∈ smR y, ∀ x ∈ r, x < (smA y).length → PlA (smA y) ([], pt, false) h2 ρ x := fun r hr x hx hl g => PlT.ev W.2.2.1 hI1 a4 (fun c hc => (W.2.2.1.emW hI1 hc).1) h56 hA g x hl (pl r hr x hx g)
        obtain ⟨s1, s2⟩ := ek.2.2.was ks hI1 kwk_ev
        obtain ⟨t1, _⟩ := s2 j k1 k2
        have ek2 := W2.2.2.2.2.2.2.2.2.2
        have k22 : jar h2 (jfr h2 31 e) j ≠ 0 := (sr2 j _ upd_eq).2.1
        have ru2 := (ek2.2.2.2.2 j k1).resolve_left k22
        have ecell : jar h1 (jar h1 (jfr h1 31 e) j) p = jar h2 (jar h2 (jfr h2 31 e) j) p := by rw [se31, s1.ar, t1.ar]
        have cu := (ru2.2.2.2 p (by omega)).1
        have ow2 : OW h2 := W2.2.2.2.1.2.2.2.2.2
        refine ⟨by rw [ecell]; exact cu.1, ?_⟩
        rw [ecell]
        refine JW.up (n := 9) (fun dd => useR0 (k_cCopy (d := dd) cu a3 ow2.tx) ?_) (by omega)
        rintro v4 h3 hI3 hle3 ⟨_, c1, c2⟩
        obtain ⟨W3, e31, ea, kf, sn⟩ := W2.put hA hI2 hI3 hle3 k1 (show p < 10 by omega) k22 c2 c1
        have k42 := (sr2 j _ upd_eq).2.2.2
        rw [rSet_len, List.length_replicate] at k42
        have rs : rSet (List.replicate tb.2.1.length vNull) (ps.take (k' + 1)) (vs ++ [wv]) = (rSet (List.replicate tb.2.1.length vNull) (ps.take k') vs).set p wv := by
          rw [htk]
          exact rSet_snoc _ _ _ _ _ (by rw [List.length_take]; omega)
        have sr3 := sn f (rSet (List.replicate tb.2.1.length vNull) (ps.take (k' + 1)) (vs ++ [wv])) sr2.oth (by rw [rSet_len, List.length_replicate]; exact w10) (fun i2 hi2 hne => ?_) (fun hil => ?_)
        · rw [nI_1]
          have IH := w_ins48 C hI kd hsc hj hrow lr hps etb et xl xa hd hQ hX m' (k' + 1) (vs ++ [wv]) h3 (by omega) (by rw [List.length_append]; show vs.length + 1 = _; omega) hI3 W3 sr3 (fun r hr x hx => ?_) eq
          · rw [e31, ea] at IH
            rw [show jar h1 (jfr h1 31 e) j = jar h2 (jfr h2 31 e) j from by rw [se31, s1.ar]]
            exact IH
          · exact (pl2 r hr x hx (xa r hr x hx)).kf W2.2.2.1 kf hI2 hA (xa r hr x hx) wK_n
        · rw [rSet_len, List.length_replicate] at hi2
          rw [rs, List.getD_eq_getElem?_getD, List.getElem?_set_ne (fun z => hne z.symm), ← List.getD_eq_getElem?_getD]
          exact k42 i2 hi2
        · rw [rs, List.getD_eq_getElem?_getD, List.getElem?_set_self (by rw [rSet_len, List.length_replicate]; exact p2)]
          rfl
      · rintro z h2 _ hI2 ⟨c, hm', a1, a2, W2, f1⟩
        rw [a1] at eq
        exact hX z h2 c hI2 (by rw [eq]; rfl) (W2.x f1)
end
