/-! the component: INSERT is worked out -/
section
variable {D : JD} {h h' h'' h0 h1 h2 : JH} {ρ : Nat → Nat} {A : List Nod} {E : TEnv} {K K' : Nat → Bool} {q c t u B e sc b i j k v n d xn r : Nat} {M : Nat → Prop} {tb tb' : Tab} {T T' S : List Tab} {pv : List Val} {pt : List Nat} {ra rb : Int} {y : Stm} {x : Val} {f : Nat → Option (List Val)} {R : TRow} {ps : List Nat} {acc : List (List Val)} {vals row : List Val}
theorem uNew_eq {cs : List Col} {a : List Nat} {l : List (List Nat)} : uNew A pt pv cs ps (a :: l) acc = (sVals (eVal A ([], pt, false) pv [] []) a [] >>= fun vs => xMust (!rMiss cs (rSet (List.replicate cs.length vNull) ps vs)) "23502" >>= fun _ => uNew A pt pv cs ps l (acc ++ [rSet (List.replicate cs.length vNull) ps vs])) := by
  rw [uNew]
theorem upd_snoc : upF (fun j => acc[j]?) acc.length row = fun j => (acc ++ [row])[j]? := by
  funext j
  unfold upF
  by_cases z : j = acc.length
  · rw [if_pos z, z, List.getElem?_append, if_neg (Nat.lt_irrefl _), Nat.sub_self]
    rfl
  · rw [if_neg z, List.getElem?_append]
    by_cases g : j < acc.length
    · rw [if_pos g]
    · rw [if_neg g]
      have e1 : acc[j]? = none := List.getElem?_eq_none (by omega)
      have e2 : [row][j - acc.length]? = none := List.getElem?_eq_none (by show 1 ≤ _; omega)
      rw [e2]
      exact e1
/-- the new rows -/
theorem w_ins2 {Q : JO → JH → Prop} (C : EvC (smA y) ([], pt, false) ([], pt, false) ρ pv []) (hI : JInv D h) (kd : InsR h ρ v y) (hsc : jfr h 23 e = sc) (hps : ∀ (j z : Nat), ps[j]? = some z → jai h (jfr h 106 v) j = nI z ∧ z < tb.2.1.length) (l10 : ps.length ≤ 10) (lr : ∀ row ∈ smR y, row.length = ps.length) (etb : T[k]? = some tb) (et : jfr h 107 v = tba h (jfr h 20 e) k) (xl : ∀ r ∈ smR y, ∀ x ∈ r, x < (smA y).length ∧ HB (smA y) n x ∧ ∃ ty, tType (smA y) ([], pt, false) x = .ok ty) (hd : 2 * n + 21 ≤ d)
    (hQ : ∀ h1 acc, JInv D h1 → WkS D (smA y) ρ e sc T S pv ra rb h h1 → uNew (smA y) pt pv tb.2.1 ps (smR y) [] = .ok acc → acc.length = (smR y).length → (∀ r ∈ acc, r.length = tb.2.1.length) → ScR D h1 e (fun j => acc[j]?) → jfr h1 107 v ≠ 0 ∧ (((jfi h1 46 (jfr h1 107 v)) + (jfi h1 105 v)) ≤ (100 : Int32) → ∃ n, L_X23_work_133 D d Q n v e (0 : Int32) h1) ∧ (¬ ((jfi h1 46 (jfr h1 107 v)) + (jfi h1 105 v)) ≤ (100 : Int32) → cX1_fault D d (jcs D 198) h1 (pR D h1 9 (fun v_7 h_5 => v_7 ≠ 0 ∧ (Q (.inr v_7) h_5)) (jth Q))))
    (hX : ∀ z h' c, JInv D h' → uNew (smA y) pt pv tb.2.1 ps (smR y) [] = .error c → WkX D e T S ra rb h h' z c → Q (.inr z) h') :
    ∀ (m : Nat) (acc : List (List Val)) (h1 : JH), acc.length + m = (smR y).length → JInv D h1 → WkS D (smA y) ρ e sc T S pv ra rb h h1 → (∀ r ∈ acc, r.length = tb.2.1.length) → ScR D h1 e (fun j => acc[j]?) → (∀ r ∈ smR y, ∀ x ∈ r, PlA (smA y) ([], pt, false) h1 ρ x) → uNew (smA y) pt pv tb.2.1 ps (smR y) [] = uNew (smA y) pt pv tb.2.1 ps ((smR y).drop acc.length) acc → L_X23_work_2 D d Q (m + 1) v e (nI acc.length) h1
  | m, acc, h1, hm, hI1, W, la, sr, pl, eq => by
    have hA := C.1
    have kd1 : InsR h1 ρ v y := kd.sf W.2.1
    obtain ⟨N, ⟨_, v0, vk⟩, _, _, _, _, _, ⟨c3, c4⟩, _, rws⟩ := kd1
    obtain ⟨N0, ⟨_, _, vk0⟩, _⟩ := id kd
    have w4 := W.2.2.2.1
    refine ⟨v0, fun g => ?_, fun g => ?_⟩
    · rw [c3] at g
      have := (nI_leI (by omega) (by omega)).mp g
      rw [List.drop_eq_nil_of_le (by omega)] at eq
      obtain ⟨q1, q2, q3⟩ := hQ h1 acc hI1 W eq (by omega) la sr
      exact ⟨q1, q2, q3⟩
    · rw [c3] at g
      have kl : acc.length < (smR y).length := Nat.lt_of_not_le fun z => g ((nI_leI (by omega) (by omega)).mpr z)
      obtain ⟨m', rfl⟩ : ∃ m', m = m' + 1 := ⟨m - 1, by omega⟩
      have hrow : (smR y)[acc.length]? = some (smR y)[acc.length] := List.getElem?_eq_getElem kl
      have hmem := List.getElem_mem kl
      rw [List.drop_eq_getElem_cons kl, uNew_eq] at eq
      generalize (smR y)[acc.length] = a at hrow hmem eq
      refine ⟨w4.1.1, useR0 (w_scr (j := acc.length) W hA (by omega) (by omega)) ?_⟩
      rintro v12 h2 hI2 _ ⟨rfl, vn, W2, sc2, kf2, e31⟩
      have sr2 := sc2 _ sr
      have sr3 := sr2.nil (j := acc.length) (by omega) (by rw [e31]; exact vn)
      have pl2 : ∀ r ∈ smR y, ∀ x ∈ r, PlA (smA y) ([], pt, false) h2 ρ x := fun r hr x hx => (pl r hr x hx).kf W.2.2.1 kf2 hI1 hA (xl r hr x hx).1 wK_n
      have tfix : ∀ h3, WkS D (smA y) ρ e sc T S pv ra rb h h3 → TabW D h3 (tba h (jfr h 20 e) k) ∧ jfi h3 44 (tba h (jfr h 20 e) k) = nI tb.2.1.length := fun h3 W3 => by
        have tR : TabR D h3 (tba h (jfr h 20 e) k) tb := by
          rw [← W3.2.2.2.2.2.2.2.1 k]
          exact W3.2.2.2.1.2.1.2.2.2 k tb etb
        exact ⟨tR.1, tR.2.2.2.1⟩
      have e107 : ∀ h3, WkS D (smA y) ρ e sc T S pv ra rb h h3 → jfr h3 107 v = tba h (jfr h 20 e) k := fun h3 W3 => by
        rw [(W3.1.obj hI (by rw [vk0]; decide) (by rw [vk0]; decide) (by rw [vk0]; rfl)).fr]
        exact et
      have w10 : tb.2.1.length ≤ 10 := by
        have tR : TabR D h1 (tba h1 (jfr h1 20 e) k) tb := w4.2.1.2.2.2 k tb etb
        exact tR.2.2.1.2.2.2.1
      rw [← e31]
      refine ⟨tb.2.1.length + 1, w_ins19 (E := ([], pt, false)) (X := (smR y).flatten) (f := fun j => acc[j]?) (j := acc.length) (n := tb.2.1.length) (t := tba h (jfr h 20 e) k) hA (by omega) v0 et vk0 w10 tfix (fun h3 hI3 W3 e7 sr4 pl3 => ?_) (by omega) tb.2.1.length 0 h2 (by omega) hI2 W2 (e107 h2 W2) sr3 (fun x hx => ?_)⟩
      · have pl4 : ∀ r ∈ smR y, ∀ x ∈ r, PlA (smA y) ([], pt, false) h3 ρ x := fun r hr x hx => (pl3 x (List.mem_flatten.mpr ⟨r, hr, hx⟩)).2
        refine ⟨ps.length + 1, w_ins48 (f := fun j => acc[j]?) (row := a) C hI kd hsc (by omega) hrow (lr a hmem) hps etb et (fun x hx => xl a hmem x hx) (fun r hr x hx => (xl r hr x hx).1) hd (fun h4 vs hI4 W4 g1 g2 sr5 pl5 => ?_) (fun z h' c hI' g1 g2 => ?_) ps.length 0 [] h3 (by omega) rfl hI3 W3 sr4 pl4 (by rw [List.drop_zero])⟩
        · rw [g1, ok_bind, g2] at eq
          rw [upd_snoc] at sr5
          have ln : (acc ++ [rSet (List.replicate tb.2.1.length vNull) ps vs]).length = acc.length + 1 := by rw [List.length_append]; rfl
          have IH := w_ins2 C hI kd hsc hps l10 lr etb et xl hd hQ hX m' (acc ++ [rSet (List.replicate tb.2.1.length vNull) ps vs]) h4 (by rw [ln]; omega) hI4 W4 (fun r hr => ?_) sr5 pl5 (by rw [ln]; exact eq)
          · rw [ln] at IH
            exact IH
          · rcases List.mem_append.mp hr with z | z
            · exact la r z
            · rw [List.mem_singleton.mp z, rSet_len, List.length_replicate]
        · refine hX z h' c hI' (eq.trans ?_) g2
          cases e1 : sVals (eVal (smA y) ([], pt, false) pv [] []) a [] with
          | error z' =>
            rw [e1] at g1
            have g1 : (Except.error z' : Ex Unit) = .error c := g1
            cases g1
            rfl
          | ok vs =>
            rw [e1, ok_bind] at g1
            rw [ok_bind, g1]
            rfl
      · obtain ⟨r, hr, hx'⟩ := List.mem_flatten.mp hx
        exact ⟨(xl r hr x hx').1, pl2 r hr x hx'⟩
/-- a new row is copied into the table -/
theorem NrR.kf (k : NrR D h1 t c vals) (a : KF K h1 h2) (hI1 : JInv D h1) (hK : KTb K) (tw : TabW D h1 t) (hc : c < 100) (hv : vals.length ≤ 10) : NrR D h2 t c vals ∧ jar h2 (jfr h2 45 t) c = jar h1 (jfr h1 45 t) c := by
  obtain ⟨s1, s2, s3⟩ := a.tbs hI1 hK.1 tw
  obtain ⟨t1, t2⟩ := s3 c hc k.1
  have ea : jar h2 (jfr h2 45 t) c = jar h1 (jfr h1 45 t) c := by rw [s1.fr, s2.ar]
  refine ⟨⟨by rw [ea]; exact k.1, fun i hi => ?_⟩, ea⟩
  unfold tce
  rw [ea, t1.ar]
  exact (k.2 i hi).of (t2 i (by omega)).1 (t2 i (by omega)).2
theorem set_self (etb : T[k]? = some tb) : T.set k tb = T := by
  obtain ⟨kl, rfl⟩ := List.getElem?_eq_some_iff.mp etb
  exact List.set_getElem_self kl
theorem w_ins159 {Q : JO → JH → Prop} {K133 : Nat → Nat → Int32 → JH → Prop} {tbr : Tab} (hA : NOK (smA y)) (hI : JInv D h) (kd : InsR h ρ v y) (kl : k < T.length) (etb : T[k]? = some tb) (et : jfr h 107 v = tba h (jfr h 20 e) k) (hr : f r = some row) (r20 : r < 20) (hl : row.length = tbr.2.1.length) (lt : tbr.2.2.length < 100) (hd : 9 ≤ d)
    (hQ : ∀ h1, JInv D h1 → WkS D (smA y) ρ e sc (T.set k (tbr.1, tbr.2.1, tbr.2.2 ++ [row])) S pv ra rb h h1 → ScR D h1 e f → K133 v e (nI (r + 1)) h1) :
    ∀ (m k' : Nat) (h1 : JH), k' + m = tbr.2.1.length → JInv D h1 → WkS D (smA y) ρ e sc (T.set k tbr) S pv ra rb h h1 → ScR D h1 e f → NrR D h1 (tba h (jfr h 20 e) k) tbr.2.2.length (row.take k') → L_X23_work_159 D d Q K133 (m + 1) v e (nI r) (jar h1 (jfr h1 45 (tba h (jfr h 20 e) k)) tbr.2.2.length) (nI k') h1
  | m, k', h1, hm, hI1, W, sr, nr => by
    obtain ⟨N0, ⟨_, v0, vk0⟩, _⟩ := id kd
    have w4 := W.2.2.2.1
    have w8 := W.2.2.2.2.2.2.2.1
    have ow := w4.2.2.2.2.2
    have ot := w4.2.2.2.2.1
    have etr : (T.set k tbr)[k]? = some tbr := by rw [List.getElem?_set, if_pos rfl, if_pos kl]
    have tR : TabR D h1 (tba h (jfr h 20 e) k) tbr := by
      rw [← w8 k]
      exact w4.2.1.2.2.2 k tbr etr
    have w10 := tR.2.2.1.2.2.2.1
    have e107 : jfr h1 107 v = tba h (jfr h 20 e) k := by
      rw [(W.1.obj hI (by rw [vk0]; decide) (by rw [vk0]; decide) (by rw [vk0]; rfl)).fr]
      exact et
    have kl' : k < (T.set k tbr).length := by rw [List.length_set]; exact kl
    refine ⟨v0, ?_⟩
    rw [e107, tR.2.2.2.1]
    refine ⟨tR.1.1.1, fun g => ?_, fun g => ?_⟩
    · have := (nI_leI (by omega) (by omega)).mp g
      rw [List.take_of_length_le (by omega)] at nr
      obtain ⟨tf, tR2⟩ := tR.more nr hI1 lt hl
      rw [tR.2.2.2.2.1.1, nI_1]
      rintro h4 rfl
      have hI4 : JInv D (wfi h1 46 (tba h (jfr h 20 e) k) (nI (tbr.2.2.length + 1))) := hI1.wfi (hI1.2.1 _ (by rw [tR.1.1.2]; rfl)) (hI1.lt (by rw [tR.1.1.2]; decide))
      have W2 := W.tf (tb' := (tbr.1, tbr.2.1, tbr.2.2 ++ [row])) hA hI1 kl' (by rw [w8 k]; exact tf) (by rw [w8 k]; exact tR2)
      rw [List.set_set] at W2
      have ks : KS tK h1 (wfi h1 46 (tba h (jfr h 20 e) k) (nI (tbr.2.2.length + 1))) := tf.1.ks hI1 ⟨rfl, rfl, rfl, rfl⟩
      rw [nI_1]
      exact hQ _ hI4 W2 (sr.ks W.2.2.2.2.2.2.2.2.2 ks hI1 kwk_t rfl)
    · have kk : k' < tbr.2.1.length := Nat.lt_of_not_le fun z => g ((nI_leI (by omega) (by omega)).mpr z)
      obtain ⟨m', rfl⟩ : ∃ m', m = m' + 1 := ⟨m - 1, by omega⟩
      have ru := (tR.1.2.2 tbr.2.2.length lt).resolve_left nr.1
      have ixk : ixn (nI k') = k' := ixn_nI (by omega)
      refine ⟨nr.1, by rw [ru.2.2.1]; exact jin_nI (by omega) (by decide), w4.1.1, useR0 (w_scr (j := r) W hA (by omega) (by omega)) ?_⟩
      rintro v11 h2 hI2 _ ⟨rfl, vn, W2, sc2, kf2, e31⟩
      have sr2 := sc2 _ sr
      obtain ⟨k1, k2, k3, k4⟩ := sr2 r row hr
      have ek2 := W2.2.2.2.2.2.2.2.2.2
      rw [e31] at k2 k4
      have rs2 := (ek2.2.2.2.2 r k1).resolve_left (by rw [e31]; exact k2)
      rw [e31] at rs2
      have lk : (row.take k').length = k' := by rw [List.length_take]; omega
      obtain ⟨nr2, ea2⟩ := nr.kf kf2 hI1 ktb_w tR.1 lt (by omega)
      have tR2 : TabR D h2 (tba h (jfr h 20 e) k) tbr := tR.kf kf2 hI1 ktb_w
      obtain ⟨s1, s2, s3⟩ := kf2.tbs hI1 ktb_w.1 tR.1
      obtain ⟨t1, _⟩ := s3 _ lt nr.1
      have ecell : jar h1 (jar h1 (jfr h1 45 (tba h (jfr h 20 e) k)) tbr.2.2.length) k' = tce h2 (tba h (jfr h 20 e) k) tbr.2.2.length k' := by
        unfold tce
        rw [ea2, t1.ar]
      have ru2 := (tR2.1.2.2 tbr.2.2.length lt).resolve_left nr2.1
      have cw2 : CelW D h2 (tce h2 (tba h (jfr h 20 e) k) tbr.2.2.length k') := (ru2.2.2.2 k' (by omega)).1
      rw [ixk, ecell]
      have ow2 := W2.2.2.2.1.2.2.2.2.2
      have ot2 := W2.2.2.2.1.2.2.2.2.1
      refine ⟨vn, by rw [rs2.2.2.1]; exact jin_nI (by omega) (by decide), cw2.1, JW.up (n := 9) (fun dd => useR0 (k_cCopy (d := dd) cw2 (k4 k' (by omega)) ow2.tx) ?_) hd⟩
      rintro v17 h3 hI3 hle3 ⟨_, c1, c2⟩
      rw [← lk] at c1 c2
      obtain ⟨tf, tR3, nr3, ea3⟩ := tR2.putn nr2 hI2 hI3 hle3 ow2 ot2 lt (by omega) c2 c1
      have w82 := W2.2.2.2.2.2.2.2.1
      have W3 := W2.tf (tb' := tbr) hA hI2 kl' (by rw [w82 k]; exact tf) (by rw [w82 k]; exact tR3)
      rw [List.set_set] at W3
      have ks : KS tK h2 h3 := tf.1.ks hI2 ⟨rfl, rfl, rfl, rfl⟩
      have sr3 := sr2.ks ek2 ks hI2 kwk_t ((W3.2.2.2.2.2.1 31).trans (W2.2.2.2.2.2.1 31).symm)
      have tk : row.take k' ++ [row.getD (row.take k').length vNull] = row.take (k' + 1) := by
        rw [List.take_succ_eq_append_getElem (by omega), lk, List.getD_eq_getElem?_getD, List.getElem?_eq_getElem (by omega)]
        rfl
      rw [tk] at nr3
      have IH := w_ins159 (Q := Q) hA hI kd kl etb et hr r20 hl lt hd hQ m' (k' + 1) h3 (by omega) hI3 W3 sr3 nr3
      rw [nI_1]
      rw [ea3, ea2] at IH
      exact IH
theorem w_ins133 {Q : JO → JH → Prop} (hA : NOK (smA y)) (hI : JInv D h) (kd : InsR h ρ v y) (kl : k < T.length) (etb : T[k]? = some tb) (et : jfr h 107 v = tba h (jfr h 20 e) k) (la : ∀ r ∈ acc, r.length = tb.2.1.length) (lc : acc.length = (smR y).length) (lt : tb.2.2.length + acc.length ≤ 100) (hd : 9 ≤ d)
    (hQ : ∀ h1, JInv D h1 → WkS D (smA y) ρ e sc (T.set k (tb.1, tb.2.1, tb.2.2 ++ acc)) S pv ra rb h h1 → L_X23_work_133 D d Q 1 v e (nI acc.length) h1) :
    ∀ (m r : Nat) (h1 : JH), r + m = acc.length → JInv D h1 → WkS D (smA y) ρ e sc (T.set k (tb.1, tb.2.1, tb.2.2 ++ acc.take r)) S pv ra rb h h1 → ScR D h1 e (fun j => acc[j]?) → L_X23_work_133 D d Q (m + 1) v e (nI r) h1
  | 0, r, h1, hm, hI1, W, sr => by
    have : r = acc.length := by omega
    subst this
    rw [List.take_of_length_le (Nat.le_refl _)] at W
    exact hQ h1 hI1 W
  | m + 1, r, h1, hm, hI1, W, sr => by
    have kd1 : InsR h1 ρ v y := kd.sf W.2.1
    obtain ⟨N, ⟨_, v0, vk⟩, _, _, _, _, _, ⟨c3, c4⟩, _, rws⟩ := kd1
    obtain ⟨N0, ⟨_, _, vk0⟩, _⟩ := id kd
    have w4 := W.2.2.2.1
    have w8 := W.2.2.2.2.2.2.2.1
    have ow := w4.2.2.2.2.2
    have ot := w4.2.2.2.2.1
    have etr : (T.set k (tb.1, tb.2.1, tb.2.2 ++ acc.take r))[k]? = some (tb.1, tb.2.1, tb.2.2 ++ acc.take r) := by rw [List.getElem?_set, if_pos rfl, if_pos kl]
    have tR : TabR D h1 (tba h (jfr h 20 e) k) (tb.1, tb.2.1, tb.2.2 ++ acc.take r) := by
      rw [← w8 k]
      exact w4.2.1.2.2.2 k _ etr
    have e107 : jfr h1 107 v = tba h (jfr h 20 e) k := by
      rw [(W.1.obj hI (by rw [vk0]; decide) (by rw [vk0]; decide) (by rw [vk0]; rfl)).fr]
      exact et
    have ln : (tb.2.2 ++ acc.take r).length = tb.2.2.length + r := by rw [List.length_append, List.length_take]; omega
    have rl : r < acc.length := by omega
    refine ⟨v0, fun g => ?_, fun g => ?_⟩
    · rw [c3] at g
      have := (nI_leI (by omega) (by omega)).mp g
      omega
    · rw [e107, tR.2.2.2.2.1.1]
      have lt' : (tb.2.2 ++ acc.take r).length < 100 := by omega
      refine ⟨tR.1.1.1, useR0 (w_rowM tR.1 ot ow lt' (by omega)) ?_⟩
      rintro v35 h2 hI2 _ ⟨rfl, vn, tf, raf⟩
      obtain ⟨tR2, nr2⟩ := tR.nrow hI1 tf raf vn
      have kl' : k < (T.set k (tb.1, tb.2.1, tb.2.2 ++ acc.take r)).length := by rw [List.length_set]; exact kl
      have W2 := W.tf (tb' := (tb.1, tb.2.1, tb.2.2 ++ acc.take r)) hA hI1 kl' (by rw [w8 k]; exact tf) (by rw [w8 k]; exact tR2)
      rw [List.set_set] at W2
      have ks : KS tK h1 h2 := tf.1.ks hI1 ⟨rfl, rfl, rfl, rfl⟩
      have sr2 := sr.ks W.2.2.2.2.2.2.2.2.2 ks hI1 kwk_t ((W2.2.2.2.2.2.1 31).trans (W.2.2.2.2.2.1 31).symm)
      have hr : (fun j => acc[j]?) r = some acc[r] := List.getElem?_eq_getElem rl
      have tk : acc.take (r + 1) = acc.take r ++ [acc[r]] := List.take_succ_eq_append_getElem rl
      have lar := la acc[r] (List.getElem_mem rl)
      generalize acc[r] = row at hr tk lar
      rw [← tf.2.2.1]
      refine ⟨tb.2.1.length + 1, w_ins159 (tbr := (tb.1, tb.2.1, tb.2.2 ++ acc.take r)) hA hI kd kl etb et hr (by omega) lar lt' hd (fun h3 hI3 W3 sr3 => ?_) tb.2.1.length 0 h2 (by show 0 + tb.2.1.length = tb.2.1.length; omega) hI2 W2 sr2 (by rw [List.take_zero]; exact nr2)⟩
      refine w_ins133 hA hI kd kl etb et la lc lt hd hQ m (r + 1) h3 (by omega) hI3 ?_ sr3
      rw [tk, ← List.append_assoc]
      exact W3
end
