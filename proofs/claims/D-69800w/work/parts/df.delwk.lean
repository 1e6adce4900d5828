/-! the component: DELETE is worked out -/
section
variable {D : JD} {h h' h'' h0 h1 h2 : JH} {ρ : Nat → Nat} {A : List Nod} {E : TEnv} {K K' : Nat → Bool} {q c t u r B e sc b i k v n d : Nat} {M : Nat → Prop} {tb tb' : Tab} {T T' S : List Tab} {pv : List Val} {pt : List Nat} {ra rb : Int} {y : Stm}
theorem tK_w : ∀ k, tK k = true → wkd k = true ∧ k ≠ 12 ∧ k ≠ 98 ∧ k ≠ 99 ∧ k ≠ 144 := fun k e => by
  unfold tK at e
  simp only [Bool.or_eq_true, Nat.beq_eq] at e
  rcases e with e | e | e | e <;> rw [e] <;> decide
theorem wkS_t : ∀ k, tK k = true → wkS k = true := fun k e => by
  unfold tK at e
  simp only [Bool.or_eq_true, Nat.beq_eq] at e
  rcases e with e | e | e | e <;> rw [e] <;> rfl
/-- one table of the base has changed -/
theorem BasR.tf (kb : BasR D h B T) (hI : JInv D h) (ot : OT h) (hk : k < T.length) (a : TF D (tba h B k) h h') (tR : TabR D h' (tba h B k) tb') : BasR D h' B (T.set k tb') ∧ BF D B h h' := by
  have l4 := kb.2.1.2
  obtain ⟨bf, sB, sA⟩ := a.bf hI ot kb.1 (by omega)
  refine ⟨⟨bf.2.2.2.1.2, ⟨by rw [sB.fi, List.length_set]; exact kb.2.1.1, by rw [List.length_set]; exact l4⟩, fun j tb ht => ?_⟩, bf⟩
  have et : tba h' B j = tba h B j := by unfold tba; rw [sB.fr, sA.ar]
  rw [et]
  rw [List.getElem?_set] at ht
  by_cases z : k = j
  · subst z
    rw [if_pos rfl, if_pos hk] at ht
    cases ht
    exact tR
  · rw [if_neg z] at ht
    have jl := (List.getElem?_eq_some_iff.mp ht).1
    have kj := kb.2.2 j tb ht
    exact kj.of (a.2.1 _ (tba_ne' hI ot kb.1 (by omega) fun w => z w.symm) kj.1) a.1 hI
theorem kwk_t : KWk tK := ⟨rfl, rfl, rfl, rfl, rfl, rfl⟩
theorem WkS.tf (W : WkS D A ρ e sc T S pv ra rb h h1) (hA : NOK A) (hI1 : JInv D h1) (hk : k < T.length) (a : TF D (tba h1 (jfr h1 20 e) k) h1 h2) (tR : TabR D h2 (tba h1 (jfr h1 20 e) k) tb') : WkS D A ρ e sc (T.set k tb') S pv ra rb h h2 := by
  obtain ⟨w1, w2, w3, w4, w5, w6, w7, w8, w9, w10⟩ := W
  have ot := w4.2.2.2.2.1
  obtain ⟨b1, bf⟩ := w4.2.1.2.tf hI1 ot hk a tR
  obtain ⟨e2, eg, s⟩ := w4.bf hI1 bf b1
  have ks : KS tK h1 h2 := a.1.ks hI1 ⟨rfl, rfl, rfl, rfl⟩
  have sf : SF D h1 h2 := a.1.sf hI1 tK_w
  have k142 : jkd h1 (jfr h1 56 sc) = 142 := hI1.ref (F := 56) (by decide +kernel) w5.2.1.1
  have l56 : jln h2 (jfr h1 56 sc) = jln h1 (jfr h1 56 sc) := (ks.obj hI1 (by rw [k142]; decide) (by rw [k142]; decide) (by rw [k142]; rfl)).ln
  obtain ⟨_, sB, sA⟩ := a.bf hI1 ot w4.2.1.2.1 (by have := w4.2.1.2.2.1.2; omega)
  obtain ⟨k2, n1, n2, n3⟩ := w10.ks ks hI1 kwk_t s
  refine ⟨w1.tr (ks.mono wkS_t), w2.tr sf hI1, w3.sf sf hA hI1, e2, w5.ks ks hI1 rfl ⟨rfl, rfl⟩ ⟨rfl, rfl⟩ l56, fun F => (s.fr F).trans (w6 F), ?_, fun j => ?_, fun q hq => ?_, k2⟩
  · have := w7.tr eg.2.2
    unfold pO pS at this ⊢
    rw [n1, n2, n3]
    exact this.mono (by omega) (by omega)
  · rw [← w8 j]
    unfold tba
    rw [s.fr, sB.fr, sA.ar]
  · have k31 : jkd h1 q = 31 := (w1.2.2.1 q (by rw [hq]; decide)).trans hq
    rw [(ks.obj hI1 (by rw [k31]; decide) (by rw [k31]; decide) (by rw [k31]; rfl)).fr]
    exact w9 q hq
/-- rows of tables have the types of their columns -/
def TbV (T : List Tab) : Prop := ∀ tb ∈ T, ∀ r ∈ tb.2.2, r.length = tb.2.1.length ∧ ∀ (c : Nat) (col : Col), tb.2.1[c]? = some col → VT col.2.1 (r.getD c vNull)
theorem TbV.row {w : Str} {row : List Val} (k : TbV T) (ht : tb ∈ T) (hr : row ∈ tb.2.2) (hE : E.1 = [(w, tb)]) : RowOk E [some row] := fun j t r hj hrr c col hc => by
  rw [hE] at hj
  cases j with
  | succ j => simp at hj
  | zero =>
    simp only [List.getElem?_cons_zero, Option.some.injEq] at hj
    subst hj
    have hrr : row = r := by simpa using hrr
    subst hrr
    exact (k tb ht row hr).2 c col hc
theorem uKeep_eq {w : List Val → Ex Bool} {r : List Val} {l acc : List (List Val)} : uKeep w (r :: l) acc = (w r >>= fun b => uKeep w l (if b = true then acc else acc ++ [r])) := by
  rw [uKeep]
/-- the rows that stay, of the first r -/
def kpT (f : Nat → Bool) (rows : List (List Val)) (r : Nat) : List (List Val) := ((List.range r).filter f).filterMap fun k => rows[k]?
theorem kpT_succ {f : Nat → Bool} {rows : List (List Val)} (hr : r < rows.length) : kpT f rows (r + 1) = if f r = true then kpT f rows r ++ [rows[r]] else kpT f rows r := by
  unfold kpT
  rw [List.range_succ, List.filter_append, List.filterMap_append]
  by_cases z : f r = true
  · rw [if_pos z, List.filter_cons_of_pos z]
    congr 1
    rw [List.filter_nil, List.filterMap_cons, List.getElem?_eq_getElem hr]
    rfl
  · rw [if_neg z, List.filter_cons_of_neg z, List.filter_nil, List.filterMap_nil, List.append_nil]
theorem kpT_congr {f g : Nat → Bool} {rows : List (List Val)} (hf : ∀ k, k < r → f k = g k) : kpT f rows r = kpT g rows r := by
  unfold kpT
  rw [List.filter_congr fun k hk => hf k (List.mem_range.mp hk)]
theorem kpT_len {f : Nat → Bool} {rows : List (List Val)} : (kpT f rows r).length ≤ r := by
  unfold kpT
  exact Nat.le_trans (List.length_filterMap_le _ _) (Nat.le_trans (List.length_filter_le _ _) (Nat.le_of_eq List.length_range))
theorem w_delL {Q : JO → JH → Prop} (dg : JDg D) (C : EvC (smA y) ([(smT y, tb)], pt, false) ([(smT y, tb)], pt, false) ρ pv []) (hI : JInv D h) (tr : TreeR D h (smA y) ρ) (kd : DelR h ρ v y) (hsc : jfr h 23 e = sc) (kl : k < T.length) (etb : T[k]? = some tb) (ht : jfr h 138 (jfr h 130 v) = tba h (jfr h 20 e) k) (hV : TbV T) (ol : ∀ x, smW y = some x → x < (smA y).length ∧ HB (smA y) n x) (tc : tCond (smA y) ([(smT y, tb)], pt, false) (smW y) = .ok ()) (hb : jsz h < b) (hd : 2 * n + 22 ≤ d)
    (hQ : ∀ rows' v' h', JInv D h' → uKeep (fun r => eCond (smA y) ([(smT y, tb)], pt, false) pv [] [some r] (smW y)) tb.2.2 [] = .ok rows' → StR h' v' (sStr "DELETE " ++ sDigits (Int64.ofNat (tb.2.2.length - rows'.length))) → jkd h' v' = 12 → WkS D (smA y) ρ e sc (T.set k (tb.1, tb.2.1, rows')) S pv (1 + 8) (100 + 220) h h' → Q (.inl (some (vR 64 v'))) h')
    (hX : ∀ z h' c, JInv D h' → uKeep (fun r => eCond (smA y) ([(smT y, tb)], pt, false) pv [] [some r] (smW y)) tb.2.2 [] = .error c → WkX D e T S 1 100 h h' z c → Q (.inr z) h') :
    ∀ (m r : Nat) (h1 : JH), r + m = tb.2.2.length → JInv D h1 → WkS D (smA y) ρ e sc T S pv 1 100 h h1 → (jkd h1 b = 71 ∧ jln h1 b = tb.2.2.length) → (∀ x, smW y = some x → PlA (smA y) ([(smT y, tb)], pt, false) h1 ρ x) → uKeep (fun r => eCond (smA y) ([(smT y, tb)], pt, false) pv [] [some r] (smW y)) tb.2.2 [] = uKeep (fun r => eCond (smA y) ([(smT y, tb)], pt, false) pv [] [some r] (smW y)) (tb.2.2.drop r) (kpT (stB h1 b) tb.2.2 r) → L_X39_work_21 D d Q (m + 1) v e (tba h (jfr h 20 e) k) b (nI (r - (kpT (stB h1 b) tb.2.2 r).length)) (nI r) h1
  | m, r, h1, hm, hI1, W, ⟨bk, bl⟩, pl, eq => by
    have hA := C.1
    have kd1 : DelR h1 ρ v y := kd.sf W.2.1
    obtain ⟨v0, vk, rr, kw⟩ := kd1
    have w4 := W.2.2.2.1
    have w8 := W.2.2.2.2.2.2.2.1
    have w9 := W.2.2.2.2.2.2.2.2.1
    have ow : OW h1 := w4.2.2.2.2.2
    have ot : OT h1 := w4.2.2.2.2.1
    have tR : TabR D h1 (tba h (jfr h 20 e) k) tb := by
      rw [← w8 k]
      exact w4.2.1.2.2.2 k tb etb
    have l100 := tR.2.2.2.2.1.2
    have c46 := tR.2.2.2.2.1.1
    have kpl := kpT_len (f := stB h1 b) (rows := tb.2.2) (r := r)
    have s0 : jfr h1 130 v = jfr h 130 v := (W.2.1.at kd.2.1 (by decide)).2.2.2.2.1 130 rfl
    refine ⟨tR.1.1.1, fun g => ?_, fun g => ?_⟩
    · rw [c46] at g
      have := (nI_leI (by omega) (by omega)).mp g
      have er : r = tb.2.2.length := by omega
      subst er
      rw [List.drop_eq_nil_of_le (Nat.le_refl _)] at eq
      have eq : uKeep (fun r => eCond (smA y) ([(smT y, tb)], pt, false) pv [] [some r] (smW y)) tb.2.2 [] = .ok (kpT (stB h1 b) tb.2.2 tb.2.2.length) := eq
      refine useV0 (w_keep tR ot (by omega) bk ⟨by omega, by omega⟩ (by omega)) ?_
      rintro h2 hI2 hle2 ⟨tf, tR2⟩
      have est : stR (stB h1 b) tb.2.2 = kpT (stB h1 b) tb.2.2 tb.2.2.length := rfl
      rw [est] at tR2
      have tf' : TF D (tba h1 (jfr h1 20 e) k) h1 h2 := by rw [w8 k]; exact tf
      have W2 := W.tf (tb' := (tb.1, tb.2.1, kpT (stB h1 b) tb.2.2 tb.2.2.length)) hA hI1 kl tf' (by rw [w8 k]; exact tR2)
      refine w_tag (w := "DELETE ") (n := tb.2.2.length - (kpT (stB h1 b) tb.2.2 tb.2.2.length).length) (g := fun _ => nI (tb.2.2.length - (kpT (stB h1 b) tb.2.2 tb.2.2.length).length)) dg hI2 ⟨by decide, by decide +kernel⟩ (by decide +kernel) (by omega) (fun _ _ => rfl) (by omega) (fun v' h' hI' st k12 _ nt => ?_)
      exact hQ _ v' h' hI' eq st k12 (nt.wk W2 hA hI2)
    · rw [c46] at g
      have rl : r < tb.2.2.length := Nat.lt_of_not_le fun z => g ((nI_leI (by omega) (by omega)).mpr z)
      obtain ⟨m', rfl⟩ : ∃ m', m = m' + 1 := ⟨m - 1, by omega⟩
      have hr : tb.2.2[r]? = some tb.2.2[r] := List.getElem?_eq_getElem rl
      have hrm := List.getElem_mem rl
      rw [List.drop_eq_getElem_cons rl, uKeep_eq] at eq
      have kps : ∀ f : Nat → Bool, kpT f tb.2.2 (r + 1) = if f r = true then kpT f tb.2.2 r ++ [tb.2.2[r]] else kpT f tb.2.2 r := fun f => kpT_succ rl
      generalize tb.2.2[r] = row at hr hrm eq kps
      have rk : RowOk ([(smT y, tb)], pt, false) [some row] := hV.row (List.mem_of_getElem? etb) hrm rfl
      refine ⟨v0, useI (w_picks (j := r) (w := smT y) (T' := ([], [], false)) C rfl rfl v0 w4.1.1 ((W.2.2.2.2.2.1 23).trans hsc) W.2.2.2.2.1 rr.2.1 (by rw [s0, w9 _ kd.2.2.1.2.2.1]; exact ht) tR hr rk W.2.2.1 ow (fun x hx => ⟨(ol x hx).1, (ol x hx).2, pl x hx, tc⟩) kw (by omega)) ?_ ?_⟩
      · rintro bb h2 hI2 _ ⟨bv, e1, rfl, ev, _⟩
        rw [e1, ok_bind] at eq
        have W2 := W.ev hA hI1 ev
        have h56 := W.2.2.2.2.1.2.1.1
        have bs : same h1 h2 b := (ev.eks hI1 ow W.2.2.1 h56).obj hI1 (by rw [bk]; decide) (by rw [bk]; decide) (by rw [bk]; rfl)
        have bk2 := bs.kd.trans bk
        have bl2 := bs.ln.trans bl
        have pl2 : ∀ x, smW y = some x → PlA (smA y) ([(smT y, tb)], pt, false) h2 ρ x := fun x hx g => PlT.ev W.2.2.1 hI1 ev (fun c hc => (W.2.2.1.emW hI1 hc).1) h56 hA g x (ol x hx).1 (pl x hx g)
        have ix : ixn (nI r) = r := ixn_nI (by omega)
        have nxt : ∀ (sv : Int32), jbo sv → decide (sv ≠ 0) = !bv → W_X39_work_48 D d Q (L_X39_work_21 D d Q (m' + 1)) v e (tba h (jfr h 20 e) k) b (nI (r - (kpT (stB h1 b) tb.2.2 r).length)) (nI r) b (nI r) sv h2 := by
          intro sv jb hs
          refine ⟨by omega, by rw [bl2]; exact jin_nI (by omega) (by omega), jb, ?_⟩
          rintro h4 rfl
          rw [ix]
          have ej : jai (wai h2 b r sv) b r = sv := by rw [jai_wai, if_pos ⟨rfl, rfl⟩]
          have st1 : ∀ k, k < r → stB (wai h2 b r sv) b k = stB h1 b k := fun k hk => by
            unfold stB
            rw [jai_wai, if_neg (by omega), bs.ai]
          have kc := kpT_congr (rows := tb.2.2) st1
          have str : stB (wai h2 b r sv) b r = !bv := by unfold stB; rw [ej]; exact hs
          have ks := kps (stB (wai h2 b r sv) b)
          rw [str, kc] at ks
          have W3 := W2.nai (i := r) (x := sv) hA hI hI2 tr hb bk2
          have hI3 : JInv D (wai h2 b r sv) := hI2.wai (hI2.2.1 _ (by rw [bk2]; rfl)) (hI2.lt (by rw [bk2]; decide))
          have IH := w_delL dg C hI tr kd hsc kl etb ht hV ol tc hb hd hQ hX m' (r + 1) (wai h2 b r sv) (by omega) hI3 W3 ⟨bk2, bl2⟩ (fun x hx => (pl2 x hx).pai)
          rw [ej]
          refine ⟨by omega, by show jin _ (jln h2 b); rw [bl2]; exact jin_nI (by omega) (by omega), fun g1 => ?_, fun g1 => ?_⟩
          · have bf : bv = false := by
              cases bv with
              | false => rfl
              | true => exact absurd (by simpa using hs) g1
            subst bf
            rw [show (if (!false) = true then kpT (stB h1 b) tb.2.2 r ++ [row] else kpT (stB h1 b) tb.2.2 r) = kpT (stB h1 b) tb.2.2 r ++ [row] from rfl] at ks
            rw [ks] at IH
            have IH := IH (by rw [eq]; rfl)
            rw [List.length_append] at IH
            show L_X39_work_21 D d Q (m' + 1) v e (tba h (jfr h 20 e) k) b (nI (r - (kpT (stB h1 b) tb.2.2 r).length)) (nI r + 1) (wai h2 b r sv)
            rw [nI_1, show r - (kpT (stB h1 b) tb.2.2 r).length = r + 1 - ((kpT (stB h1 b) tb.2.2 r).length + [row].length) by show _ = r + 1 - (_ + 1); omega]
            exact IH
          · have bf : bv = true := by
              cases bv with
              | true => rfl
              | false => rw [g1] at hs; exact absurd hs (by decide)
            subst bf
            rw [if_neg (by decide)] at ks
            rw [ks] at IH
            have IH := IH (by rw [eq]; rfl)
            show L_X39_work_21 D d Q (m' + 1) v e (tba h (jfr h 20 e) k) b (nI (r - (kpT (stB h1 b) tb.2.2 r).length) + 1) (nI r + 1) (wai h2 b r sv)
            rw [nI_1, nI_1, show r - (kpT (stB h1 b) tb.2.2 r).length + 1 = r + 1 - (kpT (stB h1 b) tb.2.2 r).length by omega]
            exact IH
        cases bv with
        | true => exact ⟨fun _ => nxt 0 jbo0 (by decide), fun z => absurd z (by decide)⟩
        | false => exact ⟨fun z => absurd rfl z, fun _ => nxt 1 jbo1 (by decide)⟩
      · rintro z h2 hI2 _ ⟨c, hm', e1, ev, f⟩
        rw [e1] at eq
        have W2 := W.ev hA hI1 ev
        exact hX z h2 c hI2 eq (W2.x (f.fx (nb_econd c e1)))
theorem uWork4 (y0 : smK y = 4) (hk : tbNeed T (smT y) = .ok k) (etb : T[k]? = some tb) : uWork T pt pv y [] = (uKeep (fun r => eCond (smA y) ([(smT y, tb)], pt, false) pv [] [some r] (smW y)) tb.2.2 [] >>= fun q => .ok (T.set k (tb.1, tb.2.1, q), tb.2.2.length - q.length)) := by
  have ha : tbAt T (smT y) = some k := by
    unfold tbNeed at hk
    cases z : tbAt T (smT y) with
    | none => rw [z] at hk; cases hk
    | some j => rw [z] at hk; cases hk; rfl
  have hg : tbGet T k = tb := by unfold tbGet; rw [List.getD_eq_getElem?_getD, etb]; rfl
  unfold uWork
  rw [y0, ha]
  show (uKeep (fun r => eCond (smA y) ([(smT y, tbGet T k)], pt, false) pv [] [some r] (smW y)) (tbRows (tbGet T k)) [] >>= fun q => .ok (tbPut T k q, (tbRows (tbGet T k)).length - q.length)) = _
  unfold tbPut tbRows
  rw [hg]
/-- DELETE is worked out -/
theorem w_delWk (dg : JDg D) (C : EvC (smA y) ([(smT y, tb)], pt, false) ([(smT y, tb)], pt, false) ρ pv []) (tr : TreeR D h (smA y) ρ) (kd : DelR h ρ v y) (y0 : smK y = 4) (en : EngT D h e T S) (ek : EnK D h e) (hsc : jfr h 23 e = sc) (ep : EnvP D h sc pv) (hk : tbNeed T (smT y) = .ok k) (etb : T[k]? = some tb) (ht : jfr h 138 (jfr h 130 v) = tba h (jfr h 20 e) k) (hV : TbV T) (ol : ∀ x, smW y = some x → x < (smA y).length ∧ HB (smA y) n x) (tc : tCond (smA y) ([(smT y, tb)], pt, false) (smW y) = .ok ()) (pl : ∀ x, smW y = some x → PlA (smA y) ([(smT y, tb)], pt, false) h ρ x) (hd : 2 * n + 23 ≤ d) :
    cX39_work D d v e h (pR D h 64 (fun x h' => ∃ T' n', uWork T pt pv y [] = .ok (T', n') ∧ StR h' x (sStr "DELETE " ++ sDigits (Int64.ofNat n')) ∧ jkd h' x = 12 ∧ WkS D (smA y) ρ e sc T' S pv (1 + 8) (100 + 220) h h') (fun z h' => ∃ c, uWork T pt pv y [] = .error c ∧ WkX D e T S 1 100 h h' z c)) := by
  obtain ⟨d, rfl, he⟩ := dsucc (show 1 ≤ d by omega)
  have kl := (List.getElem?_eq_some_iff.mp etb).1
  have tR : TabR D h (tba h (jfr h 20 e) k) tb := en.2.1.2.2.2 k tb etb
  have l100 := tR.2.2.2.2.1.2
  have c46 := tR.2.2.2.2.1.1
  rw [uWork4 y0 hk etb]
  refine JW.inv fun hI => t_X39_work ⟨kd.1, kd.2.2.1.2.1, ?_⟩
  rw [ht, c46]
  refine ⟨tR.1.1.1, jsm_nI (by omega), ?_⟩
  rintro r4 h5 rfl rfl
  rw [ixn_nI (by omega)]
  have hI5 : JInv D (nwa h 71 tb.2.2.length) := hI.nA (by rfl)
  have W := WkS.start (n := tb.2.2.length) C.1 hI tr en ek ep
  have W' : WkS D (smA y) ρ e sc T S pv 1 100 h (nwa h 71 tb.2.2.length) := W.mono (by omega) (by omega)
  have L := w_delL (Q := pR D h 64 (fun x h' => ∃ T' n', (uKeep (fun r => eCond (smA y) ([(smT y, tb)], pt, false) pv [] [some r] (smW y)) tb.2.2 [] >>= fun q => .ok (T.set k (tb.1, tb.2.1, q), tb.2.2.length - q.length)) = .ok (T', n') ∧ StR h' x (sStr "DELETE " ++ sDigits (Int64.ofNat n')) ∧ jkd h' x = 12 ∧ WkS D (smA y) ρ e sc T' S pv (1 + 8) (100 + 220) h h') (fun z h' => ∃ c, (uKeep (fun r => eCond (smA y) ([(smT y, tb)], pt, false) pv [] [some r] (smW y)) tb.2.2 [] >>= fun q => (.ok (T.set k (tb.1, tb.2.1, q), tb.2.2.length - q.length) : Ex (List Tab × Nat))) = .error c ∧ WkX D e T S 1 100 h h' z c)) (b := jsz h + 1) dg C hI tr kd hsc kl etb ht hV ol tc (Nat.lt_succ_self _) (d := d) (by omega) (fun rows' v' h' hI' g1 g2 g3 g4 => endR fun _ _ _ => ⟨_, _, by rw [g1]; rfl, g2, g3, g4⟩) (fun z h' c hI' g1 g2 => endX fun _ _ => ⟨c, by rw [g1]; rfl, g2⟩) tb.2.2.length 0 (nwa h 71 tb.2.2.length) (by omega) hI5 W' ⟨by simp only [jkd_wfi, jln_wfi, jfi_wfi, jfl_wfi, jfr_wfi, jai_wfi, jal_wfi, jar_wfi, jsz_wfi, jus_wfi, jkd_wfl, jln_wfl, jfi_wfl, jfl_wfl, jfr_wfl, jai_wfl, jal_wfl, jar_wfl, jsz_wfl, jus_wfl, jkd_wfr, jln_wfr, jfi_wfr, jfl_wfr, jfr_wfr, jai_wfr, jal_wfr, jar_wfr, jsz_wfr, jus_wfr, jkd_wai, jln_wai, jfi_wai, jfl_wai, jfr_wai, jai_wai, jal_wai, jar_wai, jsz_wai, jus_wai, jkd_wal, jln_wal, jfi_wal, jfl_wal, jfr_wal, jai_wal, jal_wal, jar_wal, jsz_wal, jus_wal, jkd_war, jln_war, jfi_war, jfl_war, jfr_war, jai_war, jal_war, jar_war, jsz_war, jus_war, jkd_nwo, jln_nwo, jfi_nwo, jfl_nwo, jfr_nwo, jai_nwo, jal_nwo, jar_nwo, jsz_nwo, jus_nwo, jkd_nwa, jln_nwa, jfi_nwa, jfl_nwa, jfr_nwa, jai_nwa, jal_nwa, jar_nwa, jsz_nwa, jus_nwa, jkd_cpa, jln_cpa, jfi_cpa, jfl_cpa, jfr_cpa, jai_cpa, jal_cpa, jar_cpa, jsz_cpa, jus_cpa, if_true], by simp only [jkd_wfi, jln_wfi, jfi_wfi, jfl_wfi, jfr_wfi, jai_wfi, jal_wfi, jar_wfi, jsz_wfi, jus_wfi, jkd_wfl, jln_wfl, jfi_wfl, jfl_wfl, jfr_wfl, jai_wfl, jal_wfl, jar_wfl, jsz_wfl, jus_wfl, jkd_wfr, jln_wfr, jfi_wfr, jfl_wfr, jfr_wfr, jai_wfr, jal_wfr, jar_wfr, jsz_wfr, jus_wfr, jkd_wai, jln_wai, jfi_wai, jfl_wai, jfr_wai, jai_wai, jal_wai, jar_wai, jsz_wai, jus_wai, jkd_wal, jln_wal, jfi_wal, jfl_wal, jfr_wal, jai_wal, jal_wal, jar_wal, jsz_wal, jus_wal, jkd_war, jln_war, jfi_war, jfl_war, jfr_war, jai_war, jal_war, jar_war, jsz_war, jus_war, jkd_nwo, jln_nwo, jfi_nwo, jfl_nwo, jfr_nwo, jai_nwo, jal_nwo, jar_nwo, jsz_nwo, jus_nwo, jkd_nwa, jln_nwa, jfi_nwa, jfl_nwa, jfr_nwa, jai_nwa, jal_nwa, jar_nwa, jsz_nwa, jus_nwa, jkd_cpa, jln_cpa, jfi_cpa, jfl_cpa, jfr_cpa, jai_cpa, jal_cpa, jar_cpa, jsz_cpa, jus_cpa, if_true]⟩ (fun x hx g => PlT.fi (h := h) (h' := nwa h 71 tb.2.2.length) (fun _ _ _ => rfl) g x (pl x hx g)) (by rw [List.drop_zero]; rfl)
  exact ⟨_, L⟩
end
