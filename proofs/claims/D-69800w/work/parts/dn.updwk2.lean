/-! the component: a row of UPDATE is worked out; all rows -/
section
variable {D : JD} {h h' h'' h0 h1 h2 : JH} {ρ : Nat → Nat} {A : List Nod} {E : TEnv} {K K' : Nat → Bool} {q c t u B e sc b i j k v n d xn r : Nat} {M : Nat → Prop} {tb tb' : Tab} {T T' S : List Tab} {pv : List Val} {pt : List Nat} {ra rb : Int} {y : Stm} {x : Val} {f : Nat → Option (List Val)} {R : TRow} {ps xs : List Nat} {acc : List (List Val)} {vals row : List Val}
theorem w_upd103 {Q : JO → JH → Prop} {K21 : Nat → Nat → Nat → Int32 → Nat → Int32 → JH → Prop} {x3 : Int32} {X : List Nat} {nb : Nat} {bits : Nat → Int32} (C : EvC (smA y) ([(smT y, tb)], pt, false) ([(smT y, tb)], pt, false) ρ pv []) (hI : JInv D h) (kd : UpdR h ρ v y) (exs : smR y = [xs]) (hsc : jfr h 23 e = sc) (hj : j < 100) (hrow : tb.2.2[j]? = some row) (hl : row.length = tb.2.1.length) (rk : RowOk ([(smT y, tb)], pt, false) [some row]) (lx : xs.length = ps.length) (l10 : ps.length ≤ 10) (hps : ∀ (j z : Nat), ps[j]? = some z → jai h (jfr h 134 v) j = nI z ∧ z < tb.2.1.length) (etb : T[k]? = some tb) (xl : ∀ x ∈ xs, x < (smA y).length ∧ HB (smA y) n x ∧ ∃ ty, tType (smA y) ([(smT y, tb)], pt, false) x = .ok ty) (xX : ∀ x ∈ xs, x ∈ X) (hd : 2 * n + 21 ≤ d)
    (hQ : ∀ h1 vs, JInv D h1 → WkS D (smA y) ρ e sc T S pv ra rb h h1 → sVals (eVal (smA y) ([(smT y, tb)], pt, false) pv [] [some row]) xs [] = .ok vs → rMiss tb.2.1 (rSet row ps vs) = false → ScR D h1 e (upF f j (rSet row ps vs)) → BtR h1 b nb bits → (∀ x ∈ X, x < (smA y).length ∧ PlA (smA y) ([(smT y, tb)], pt, false) h1 ρ x) → K21 v e (tba h (jfr h 20 e) k) x3 b (nI (j + 1)) h1)
    (hX : ∀ z h' c, JInv D h' → (sVals (eVal (smA y) ([(smT y, tb)], pt, false) pv [] [some row]) xs [] >>= fun vs => xMust (!rMiss tb.2.1 (rSet row ps vs)) "23502") = .error c → WkX D e T S ra rb h h' z c → Q (.inr z) h') :
    ∀ (m k' : Nat) (vs : List Val) (h1 : JH), k' + m = ps.length → vs.length = k' → JInv D h1 → WkS D (smA y) ρ e sc T S pv ra rb h h1 → ScR D h1 e (upF f j (rSet row (ps.take k') vs)) → EnvR D h1 sc ([(smT y, tb)], pt, false) [some row] pv → BtR h1 b nb bits → (∀ x ∈ X, x < (smA y).length ∧ PlA (smA y) ([(smT y, tb)], pt, false) h1 ρ x) → sVals (eVal (smA y) ([(smT y, tb)], pt, false) pv [] [some row]) xs [] = sVals (eVal (smA y) ([(smT y, tb)], pt, false) pv [] [some row]) (xs.drop k') vs → L_X37_work_103 D d Q K21 (m + 1) v e (tba h (jfr h 20 e) k) x3 b (nI j) (jar h1 (jfr h1 31 e) j) (nI k') h1
  | m, k', vs, h1, hm, hvl, hI1, W, sr, er, bt, pl, eq => by
    have hA := C.1
    obtain ⟨xs1, ex1, us1, _⟩ := (kd.sf W.2.1 : UpdR h1 ρ v y)
    rw [exs] at ex1
    cases ex1
    obtain ⟨⟨_, v0, vk⟩, _, ⟨_, n1, n2⟩, ⟨_, x1, x2⟩, a1, c1, c2, c3⟩ := us1
    obtain ⟨xs0, ex0, us0, _⟩ := id kd
    rw [exs] at ex0
    cases ex0
    obtain ⟨⟨_, _, vk0⟩, _, _, _, a10, c10, c20, c30⟩ := us0
    have sv : same h h1 v := W.1.obj hI (by rw [vk0]; decide) (by rw [vk0]; decide) (by rw [vk0]; rfl)
    have sA : same h h1 (jfr h 134 v) := W.1.obj hI (by rw [a10.2.1]; decide) (by rw [a10.2.1]; decide) (by rw [a10.2.1]; rfl)
    have w4 := W.2.2.2.1
    have w8 := W.2.2.2.2.2.2.2.1
    have ek := W.2.2.2.2.2.2.2.2.2
    have tR : TabR D h1 (tba h (jfr h 20 e) k) tb := by
      rw [← w8 k]
      exact w4.2.1.2.2.2 k tb etb
    have w10 := tR.2.2.1.2.2.2.1
    obtain ⟨k1, k2, k3, k4⟩ := sr j _ upd_eq
    rw [rSet_len] at k3 k4
    have ru := (ek.2.2.2.2 j k1).resolve_left k2
    have ixk : ixn (nI k') = k' := ixn_nI (by omega)
    have c1' : jfi h1 135 v = nI ps.length := by rw [c1, c2, lx]
    refine ⟨v0, ?_⟩
    rw [c1']
    refine ⟨fun g => ?_, fun g => ?_⟩
    · have := (nI_leI (by omega) (by omega)).mp g
      have ek' : k' = ps.length := by omega
      rw [ek', List.drop_eq_nil_of_le (by omega)] at eq
      rw [ek', List.take_of_length_le (Nat.le_refl _)] at sr k4
      have eq : sVals (eVal (smA y) ([(smT y, tb)], pt, false) pv [] [some row]) xs [] = .ok vs := eq
      refine ⟨tR.1.1.1, useV (w_tmissing (vs := rSet row ps vs) tR ⟨k2, by rw [rSet_len, ru.2.2.1]; omega, by rw [ru.2.2.1]; decide, fun c' x hx => ?_⟩ (by rw [rSet_len]; exact hl) (by omega)) ?_ ?_⟩
      · have cl := (List.getElem?_eq_some_iff.mp hx).1
        rw [rSet_len] at cl
        have := k4 c' cl
        rw [List.getD_eq_getElem?_getD, hx] at this
        exact this
      · rintro h2 hI2 _ ⟨m1, he2⟩
        have he2 := he2.symm
        subst he2
        show K21 v e (tba h (jfr h 20 e) k) x3 b (nI j + 1) h1
        rw [nI_1]
        exact hQ h1 vs hI1 W eq m1 sr bt pl
      · rintro z h2 hI2 _ ⟨m1, f1⟩
        refine hX z h2 _ hI2 ?_ (W.x (f1.fx (by decide +kernel)))
        rw [eq, ok_bind, m1]
        rfl
    · have kl : k' < ps.length := Nat.lt_of_not_le fun z => g ((nI_leI (by omega) (by omega)).mpr (by omega))
      obtain ⟨m', rfl⟩ : ∃ m', m = m' + 1 := ⟨m - 1, by omega⟩
      have hpk : ps[k']? = some ps[k'] := List.getElem?_eq_getElem kl
      have hx : xs[k']? = some (xs[k']'(by omega)) := List.getElem?_eq_getElem (by omega)
      have htk : ps.take (k' + 1) = ps.take k' ++ [ps[k']] := List.take_succ_eq_append_getElem kl
      rw [List.drop_eq_getElem_cons (by omega : k' < xs.length), sVals_eq] at eq
      generalize ps[k'] = p at hpk htk
      generalize xs[k']'(by omega) = xx at hx eq
      obtain ⟨p1, p2⟩ := hps k' p hpk
      have hxm := List.mem_of_getElem? hx
      obtain ⟨y1, y2, ty, y3⟩ := xl xx hxm
      have ep : jai h1 (jfr h1 134 v) k' = nI p := by rw [sv.fr, sA.ai]; exact p1
      rw [ixk, ep, ixn_nI (by omega), x2 k' xx hx, (W.2.2.2.2.2.1 23).trans hsc]
      refine ⟨a1.1, by rw [a1.2.2]; exact jin_nI (by omega) (by decide), k2, by rw [ru.2.2.1]; exact jin_nI (by omega) (by decide), x1.1, by rw [x1.2.2]; exact jin_nI (by omega) (by decide), w4.1.1, (W.2.2.1 xx y1).1, useAt (w_evT W C rfl hI1 er rk y1 y2 (pl xx (xX xx hxm)).2 y3 (by omega)) ?_ ?_⟩
      · rintro va h2 _ hI2 ⟨wv, a1', _, a3, a4, er2, W2⟩
        rw [a1', ok_bind] at eq
        have h56 := W.2.2.2.2.1.2.1.1
        have ow : OW h1 := w4.2.2.2.2.2
        have ks := a4.eks hI1 ow W.2.2.1 h56
        have se31 : jfr h2 31 e = jfr h1 31 e := a4.2.2.2.2.1 31 e (by decide) (by decide)
        have sr2 := sr.ks ek ks hI1 kwk_ev se31
        have pl2 : ∀ x ∈ X, x < (smA y).length ∧ PlA (smA y) ([(smT y, tb)], pt, false) h2 ρ x := fun x hx => ⟨(pl x hx).1, fun g => PlT.ev W.2.2.1 hI1 a4 (fun c hc => (W.2.2.1.emW hI1 hc).1) h56 hA g x (pl x hx).1 ((pl x hx).2 g)⟩
        obtain ⟨s1, s2⟩ := ek.2.2.was ks hI1 kwk_ev
        obtain ⟨t1, _⟩ := s2 j k1 k2
        have ek2 := W2.2.2.2.2.2.2.2.2.2
        have k22 : jar h2 (jfr h2 31 e) j ≠ 0 := (sr2 j _ upd_eq).2.1
        have ru2 := (ek2.2.2.2.2 j k1).resolve_left k22
        have ecell : jar h1 (jar h1 (jfr h1 31 e) j) p = jar h2 (jar h2 (jfr h2 31 e) j) p := by rw [se31, s1.ar, t1.ar]
        have cu := (ru2.2.2.2 p (by omega)).1
        have ow2 : OW h2 := W2.2.2.2.1.2.2.2.2.2
        refine ⟨by rw [ecell]; exact cu.1, ?_⟩
        rw [ecell]
        refine JW.up (n := 9) (fun dd => useR0 (k_cCopy (d := dd) cu a3 ow2.tx) ?_) (by omega)
        rintro v4 h3 hI3 hle3 ⟨_, d1, d2⟩
        obtain ⟨W3, e31, ea, kf, sn⟩ := W2.put hA hI2 hI3 hle3 k1 (show p < 10 by omega) k22 d2 d1
        have ksw : KS wK h2 h3 := kf.ks hI2 ⟨rfl, rfl, rfl, rfl⟩
        have er3 := er2.ks ksw hI2 ⟨rfl, rfl, rfl, rfl, rfl, rfl⟩ W2.2.2.2.2.1.2.2.2 ⟨rfl, rfl⟩
        have k42 := (sr2 j _ upd_eq).2.2.2
        rw [rSet_len] at k42
        have rs : rSet row (ps.take (k' + 1)) (vs ++ [wv]) = (rSet row (ps.take k') vs).set p wv := by
          rw [htk]
          exact rSet_snoc _ _ _ _ _ (by rw [List.length_take]; omega)
        have sr3 := sn f (rSet row (ps.take (k' + 1)) (vs ++ [wv])) sr2.oth (by rw [rSet_len]; omega) (fun i2 hi2 hne => ?_) (fun hil => ?_)
        · rw [nI_1]
          have IH := w_upd103 C hI kd exs hsc hj hrow hl rk lx l10 hps etb xl xX hd hQ hX m' (k' + 1) (vs ++ [wv]) h3 (by omega) (by rw [List.length_append]; show vs.length + 1 = _; omega) hI3 W3 sr3 er3 ((bt.ks ks hI1 rfl).ks ksw hI2 rfl) (fun x hx => ⟨(pl2 x hx).1, (pl2 x hx).2.kf W2.2.2.1 kf hI2 hA (pl2 x hx).1 wK_n⟩) eq
          rw [e31, ea] at IH
          rw [show jar h1 (jfr h1 31 e) j = jar h2 (jfr h2 31 e) j from by rw [se31, s1.ar]]
          exact IH
        · rw [rSet_len] at hi2
          rw [rs, List.getD_eq_getElem?_getD, List.getElem?_set_ne (fun z => hne z.symm), ← List.getD_eq_getElem?_getD]
          exact k42 i2 hi2
        · rw [rs, List.getD_eq_getElem?_getD, List.getElem?_set_self (by rw [rSet_len]; omega)]
          rfl
      · rintro z h2 _ hI2 ⟨c, hm', a1', a2', W2, f1⟩
        rw [a1'] at eq
        exact hX z h2 c hI2 (by rw [eq]; rfl) (W2.x f1)
end
