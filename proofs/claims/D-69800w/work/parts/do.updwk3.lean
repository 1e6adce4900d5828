/-! the component: UPDATE: all rows are worked out, then copied -/
section
variable {D : JD} {h h' h'' h0 h1 h2 : JH} {ρ : Nat → Nat} {A : List Nod} {E : TEnv} {K K' : Nat → Bool} {q c t u B e sc b i j k v n d xn r : Nat} {M : Nat → Prop} {tb tb' : Tab} {T T' S : List Tab} {pv : List Val} {pt : List Nat} {ra rb : Int} {y : Stm} {x : Val} {f : Nat → Option (List Val)} {R : TRow} {ps xs : List Nat} {acc : List (List Val)} {vals row : List Val}
theorem uSets_eq {w : List Val → Ex Bool} {g : List Val → Ex (List Val)} {a : List Val} {l : List (List Val)} {ac : List (List Val) × Nat} : uSets w g (a :: l) ac = (w a >>= fun b => if b = true then (g a >>= fun r' => uSets w g l (ac.1 ++ [r'], ac.2 + 1)) else uSets w g l (ac.1 ++ [a], ac.2)) := by
  rw [uSets]
  rfl
/-- what has been worked out of the first rows -/
def UpI (f : Nat → Option (List Val)) (bits : Nat → Int32) (rows acc : List (List Val)) : Prop := (∀ j, acc.length ≤ j → bits j = 0) ∧ ∀ (j : Nat) (r : List Val), acc[j]? = some r → (bits j = 1 ∧ f j = some r) ∨ (bits j = 0 ∧ rows[j]? = some r)
theorem UpI.skip {bits : Nat → Int32} {rows : List (List Val)} (k : UpI f bits rows acc) (hr : rows[acc.length]? = some row) : UpI f bits rows (acc ++ [row]) := by
  refine ⟨fun j hj => k.1 j (by rw [List.length_append] at hj; omega), fun j r hj => ?_⟩
  rcases get_snoc hj with ⟨g1, g2⟩ | ⟨g1, g2⟩
  · rw [g1, g2]
    exact Or.inr ⟨k.1 _ (Nat.le_refl _), hr⟩
  · exact k.2 j r g2
theorem UpI.put {bits : Nat → Int32} {rows : List (List Val)} (k : UpI f bits rows acc) : UpI (upF f acc.length row) (fun j => if j = acc.length then 1 else bits j) rows (acc ++ [row]) := by
  refine ⟨fun j hj => ?_, fun j r hj => ?_⟩
  · rw [List.length_append] at hj
    have hj : acc.length + 1 ≤ j := hj
    show (if j = acc.length then (1 : Int32) else bits j) = 0
    rw [if_neg (by omega)]
    exact k.1 j (by omega)
  · show ((if j = acc.length then (1 : Int32) else bits j) = 1 ∧ (if j = acc.length then some row else f j) = some r) ∨ ((if j = acc.length then (1 : Int32) else bits j) = 0 ∧ _)
    rcases get_snoc hj with ⟨g1, g2⟩ | ⟨g1, g2⟩
    · rw [if_pos g1, if_pos g1, g2]
      exact Or.inl ⟨rfl, rfl⟩
    · rw [if_neg g1, if_neg g1]
      exact k.2 j r g2
theorem w_upd21 {Q : JO → JH → Prop} (C : EvC (smA y) ([(smT y, tb)], pt, false) ([(smT y, tb)], pt, false) ρ pv []) (hI : JInv D h) (tr : TreeR D h (smA y) ρ) (kd : UpdR h ρ v y) (exs : smR y = [xs]) (hsc : jfr h 23 e = sc) (etb : T[k]? = some tb) (ht : jfr h 138 (jfr h 130 v) = tba h (jfr h 20 e) k) (hV : TbV T) (lx : xs.length = ps.length) (l10 : ps.length ≤ 10) (hps : ∀ (j z : Nat), ps[j]? = some z → jai h (jfr h 134 v) j = nI z ∧ z < tb.2.1.length) (ol : ∀ x, smW y = some x → x < (smA y).length ∧ HB (smA y) n x) (tc : tCond (smA y) ([(smT y, tb)], pt, false) (smW y) = .ok ()) (xl : ∀ x ∈ xs, x < (smA y).length ∧ HB (smA y) n x ∧ ∃ ty, tType (smA y) ([(smT y, tb)], pt, false) x = .ok ty) (hb : jsz h < b) (hd : 2 * n + 22 ≤ d)
    (hQ : ∀ h1 acc cn f bits, JInv D h1 → WkS D (smA y) ρ e sc T S pv 1 100 h h1 → uSets (fun r => eCond (smA y) ([(smT y, tb)], pt, false) pv [] [some r] (smW y)) (uSet1 (fun r => eVal (smA y) ([(smT y, tb)], pt, false) pv [] [some r]) tb.2.1 ps xs) tb.2.2 ([], 0) = .ok (acc, cn) → acc.length = tb.2.2.length → cn ≤ acc.length → (∀ r ∈ acc, r.length = tb.2.1.length) → ScR D h1 e f → BtR h1 b tb.2.2.length bits → UpI f bits tb.2.2 acc → ∃ n, L_X37_work_161 D d Q n e (tba h (jfr h 20 e) k) (nI cn) b 0 h1)
    (hX : ∀ z h' c, JInv D h' → uSets (fun r => eCond (smA y) ([(smT y, tb)], pt, false) pv [] [some r] (smW y)) (uSet1 (fun r => eVal (smA y) ([(smT y, tb)], pt, false) pv [] [some r]) tb.2.1 ps xs) tb.2.2 ([], 0) = .error c → WkX D e T S 1 100 h h' z c → Q (.inr z) h') :
    ∀ (m : Nat) (acc : List (List Val)) (cn : Nat) (f : Nat → Option (List Val)) (bits : Nat → Int32) (h1 : JH), acc.length + m = tb.2.2.length → cn ≤ acc.length → (∀ r ∈ acc, r.length = tb.2.1.length) → JInv D h1 → WkS D (smA y) ρ e sc T S pv 1 100 h h1 → ScR D h1 e f → BtR h1 b tb.2.2.length bits → UpI f bits tb.2.2 acc → (∀ x ∈ xs ++ (smW y).toList, x < (smA y).length ∧ PlA (smA y) ([(smT y, tb)], pt, false) h1 ρ x) → uSets (fun r => eCond (smA y) ([(smT y, tb)], pt, false) pv [] [some r] (smW y)) (uSet1 (fun r => eVal (smA y) ([(smT y, tb)], pt, false) pv [] [some r]) tb.2.1 ps xs) tb.2.2 ([], 0) = uSets (fun r => eCond (smA y) ([(smT y, tb)], pt, false) pv [] [some r] (smW y)) (uSet1 (fun r => eVal (smA y) ([(smT y, tb)], pt, false) pv [] [some r]) tb.2.1 ps xs) (tb.2.2.drop acc.length) (acc, cn) → L_X37_work_21 D d Q (m + 1) v e (tba h (jfr h 20 e) k) (nI cn) b (nI acc.length) h1
  | m, acc, cn, f, bits, h1, hm, hcn, la, hI1, W, sr, bt, ui, pl, eq => by
    have hA := C.1
    obtain ⟨xs1, ex1, us1, kw⟩ := (kd.sf W.2.1 : UpdR h1 ρ v y)
    obtain ⟨xs0, ex0, us0, _⟩ := id kd
    obtain ⟨⟨_, v0, vk⟩, rr, _⟩ := us1
    obtain ⟨⟨_, _, vk0⟩, rr0, _⟩ := us0
    have w4 := W.2.2.2.1
    have w8 := W.2.2.2.2.2.2.2.1
    have w9 := W.2.2.2.2.2.2.2.2.1
    have ow : OW h1 := w4.2.2.2.2.2
    have ot : OT h1 := w4.2.2.2.2.1
    have tR : TabR D h1 (tba h (jfr h 20 e) k) tb := by
      rw [← w8 k]
      exact w4.2.1.2.2.2 k tb etb
    have l100 := tR.2.2.2.2.1.2
    have c46 := tR.2.2.2.2.1.1
    have s0 : jfr h1 130 v = jfr h 130 v := (W.2.1.at vk0 (by decide)).2.2.2.2.1 130 rfl
    refine ⟨tR.1.1.1, fun g => ?_, fun g => ?_⟩
    · rw [c46] at g
      have := (nI_leI (by omega) (by omega)).mp g
      rw [List.drop_eq_nil_of_le (by omega)] at eq
      exact hQ h1 acc cn f bits hI1 W eq (by omega) hcn la sr bt ui
    · rw [c46] at g
      have rl : acc.length < tb.2.2.length := Nat.lt_of_not_le fun z => g ((nI_leI (by omega) (by omega)).mpr z)
      obtain ⟨m', rfl⟩ : ∃ m', m = m' + 1 := ⟨m - 1, by omega⟩
      have hr : tb.2.2[acc.length]? = some tb.2.2[acc.length] := List.getElem?_eq_getElem rl
      have hrm := List.getElem_mem rl
      rw [List.drop_eq_getElem_cons rl, uSets_eq] at eq
      generalize tb.2.2[acc.length] = row at hr hrm eq
      have rk : RowOk ([(smT y, tb)], pt, false) [some row] := hV.row (List.mem_of_getElem? etb) hrm rfl
      have rlen := (hV tb (List.mem_of_getElem? etb) row hrm).1
      have plW : ∀ x, smW y = some x → PlA (smA y) ([(smT y, tb)], pt, false) h1 ρ x := fun x hx => (pl x (List.mem_append_right _ (by rw [hx]; exact List.mem_singleton.mpr rfl))).2
      refine ⟨v0, useI (w_picks (j := acc.length) (w := smT y) (T' := ([], [], false)) C rfl rfl v0 w4.1.1 ((W.2.2.2.2.2.1 23).trans hsc) W.2.2.2.2.1 rr.2.1 (by rw [s0, w9 _ rr0.2.2.1]; exact ht) tR hr rk W.2.2.1 ow (fun x hx => ⟨(ol x hx).1, (ol x hx).2, plW x hx, tc⟩) kw (by omega)) ?_ ?_⟩
      · rintro bb h2 hI2 _ ⟨bv, e1, rfl, ev, er⟩
        rw [e1, ok_bind] at eq
        have W2 := W.ev hA hI1 ev
        have h56 := W.2.2.2.2.1.2.1.1
        have ks := ev.eks hI1 ow W.2.2.1 h56
        have bt2 := bt.ks ks hI1 rfl
        have se31 : jfr h2 31 e = jfr h1 31 e := ev.2.2.2.2.1 31 e (by decide) (by decide)
        have sr2 := sr.ks W.2.2.2.2.2.2.2.2.2 ks hI1 kwk_ev se31
        have pl2 : ∀ x ∈ xs ++ (smW y).toList, x < (smA y).length ∧ PlA (smA y) ([(smT y, tb)], pt, false) h2 ρ x := fun x hx => ⟨(pl x hx).1, fun g => PlT.ev W.2.2.1 hI1 ev (fun c hc => (W.2.2.1.emW hI1 hc).1) h56 hA g x (pl x hx).1 ((pl x hx).2 g)⟩
        have ix : ixn (nI acc.length) = acc.length := ixn_nI (by omega)
        have ln1 : ∀ rw' : List Val, (acc ++ [rw']).length = acc.length + 1 := fun rw' => by rw [List.length_append]; rfl
        cases bv with
        | false =>
          rw [if_neg (by decide)] at eq
          refine ⟨fun z => absurd rfl z, fun _ => ?_⟩
          have IH := w_upd21 C hI tr kd exs hsc etb ht hV lx l10 hps ol tc xl hb hd hQ hX m' (acc ++ [row]) cn f bits h2 (by rw [ln1]; omega) (by rw [ln1]; omega) (fun r hr' => ?_) hI2 W2 sr2 bt2 (ui.skip hr) pl2 (by rw [ln1]; exact eq)
          · rw [ln1] at IH
            show L_X37_work_21 D d Q (m' + 1) v e (tba h (jfr h 20 e) k) (nI cn) b (nI acc.length + 1) h2
            rw [nI_1]
            exact IH
          · rcases List.mem_append.mp hr' with z | z
            · exact la r z
            · rw [List.mem_singleton.mp z]; exact rlen
        | true =>
          rw [if_pos rfl] at eq
          refine ⟨fun _ => ⟨by omega, by rw [bt2.2.1]; exact jin_nI (by omega) (by omega), ?_⟩, fun z => absurd z (by decide)⟩
          rw [ix]
          rintro h10 rfl
          have W3 := W2.nai (i := acc.length) (x := 1) hA hI hI2 tr hb bt2.1
          have hI3 : JInv D (wai h2 b acc.length 1) := hI2.wai (hI2.2.1 _ (by rw [bt2.1]; rfl)) (hI2.lt (by rw [bt2.1]; decide))
          have ks3 : KS k71 h2 (wai h2 b acc.length 1) := KS.nai bt2.1 rfl
          have sr3 := sr2.ks W2.2.2.2.2.2.2.2.2.2 ks3 hI2 kwk_71 rfl
          have er3 := er.ks ks3 hI2 ⟨rfl, rfl, rfl, rfl, rfl, rfl⟩ W2.2.2.2.2.1.2.2.2 ⟨rfl, rfl⟩
          have bt3 : BtR (wai h2 b acc.length 1) b tb.2.2.length (fun j => if j = acc.length then 1 else bits j) := ⟨bt2.1, bt2.2.1, fun i => by
            rw [jai_wai]
            by_cases z : i = acc.length
            · rw [if_pos ⟨rfl, z⟩, if_pos z]
            · rw [if_neg fun y => z y.2, if_neg z]
              exact bt2.2.2 i⟩
          have pl3 : ∀ x ∈ xs ++ (smW y).toList, x < (smA y).length ∧ PlA (smA y) ([(smT y, tb)], pt, false) (wai h2 b acc.length 1) ρ x := fun x hx => ⟨(pl2 x hx).1, (pl2 x hx).2.pai⟩
          refine ⟨w4.1.1, useR0 (w_scr (j := acc.length) W3 hA (by omega) (by omega)) ?_⟩
          rintro v15 h4 hI4 _ ⟨rfl, vn, W4, sc4, kf4, e31⟩
          have ks4 : KS wK (wai h2 b acc.length 1) h4 := kf4.ks hI3 ⟨rfl, rfl, rfl, rfl⟩
          have sr4 := (sc4 _ sr3).nil (j := acc.length) (by omega) (by rw [e31]; exact vn)
          have er4 := er3.ks ks4 hI3 ⟨rfl, rfl, rfl, rfl, rfl, rfl⟩ W3.2.2.2.2.1.2.2.2 ⟨rfl, rfl⟩
          have bt4 := bt3.ks ks4 hI3 rfl
          have pl4 : ∀ x ∈ xs ++ (smW y).toList, x < (smA y).length ∧ PlA (smA y) ([(smT y, tb)], pt, false) h4 ρ x := fun x hx => ⟨(pl3 x hx).1, (pl3 x hx).2.kf W3.2.2.1 kf4 hI3 hA (pl3 x hx).1 wK_n⟩
          have tR4 : TabR D h4 (tba h (jfr h 20 e) k) tb := by
            rw [← W4.2.2.2.2.2.2.2.1 k]
            exact W4.2.2.2.1.2.1.2.2.2 k tb etb
          obtain ⟨y1, _⟩ := tR4.2.2.2.2.2 acc.length row hr
          refine useR0 (w_row tR4.1.1.1 tR4.1.2.1 (by omega) y1 (by omega)) ?_
          rintro v18 h5 hI5 _ ⟨rfl, he5⟩
          have he5 := he5.symm
          subst he5
          rw [← e31, nI_1]
          refine ⟨tb.2.1.length + 1, w_upd71 (E := ([(smT y, tb)], pt, false)) (X := xs ++ (smW y).toList) (f := f) (nb := tb.2.2.length) (bits := fun j => if j = acc.length then 1 else bits j) hA (by omega) etb hr rlen (by omega) (fun h6 hI6 W6 sr6 er6 bt6 pl6 => ?_) tb.2.1.length 0 h4 (by omega) hI4 W4 (by rw [List.take_zero]; exact sr4) er4 bt4 pl4⟩
          refine ⟨ps.length + 1, w_upd103 (f := f) (X := xs ++ (smW y).toList) (nb := tb.2.2.length) (bits := fun j => if j = acc.length then 1 else bits j) C hI kd exs hsc (by omega) hr rlen rk lx l10 hps etb xl (fun x hx => List.mem_append_left _ hx) (by omega) (fun h7 vs hI7 W7 g1 g2 sr7 bt7 pl7 => ?_) (fun z h' c hI' g1 g2 => ?_) ps.length 0 [] h6 (by omega) rfl hI6 W6 (by rw [List.take_zero]; exact sr6) er6 bt6 pl6 (by rw [List.drop_zero])⟩
          · have eu : uSet1 (fun r => eVal (smA y) ([(smT y, tb)], pt, false) pv [] [some r]) tb.2.1 ps xs row = .ok (rSet row ps vs) := by
              unfold uSet1
              rw [g1, ok_bind]
              dsimp only
              rw [g2]
              rfl
            rw [eu, ok_bind] at eq
            have IH := w_upd21 C hI tr kd exs hsc etb ht hV lx l10 hps ol tc xl hb hd hQ hX m' (acc ++ [rSet row ps vs]) (cn + 1) (upF f acc.length (rSet row ps vs)) (fun j => if j = acc.length then 1 else bits j) h7 (by rw [ln1]; omega) (by rw [ln1]; omega) (fun r hr' => ?_) hI7 W7 sr7 bt7 ui.put pl7 (by rw [ln1]; exact eq)
            · rw [ln1] at IH
              exact IH
            · rcases List.mem_append.mp hr' with z | z
              · exact la r z
              · rw [List.mem_singleton.mp z, rSet_len]; exact rlen
          · refine hX z h' c hI' (eq.trans ?_) g2
            have eu : uSet1 (fun r => eVal (smA y) ([(smT y, tb)], pt, false) pv [] [some r]) tb.2.1 ps xs row = .error c := by
              unfold uSet1
              cases e9 : sVals (eVal (smA y) ([(smT y, tb)], pt, false) pv [] [some row]) xs [] with
              | error z' =>
                rw [e9] at g1
                have g1 : (Except.error z' : Ex Unit) = .error c := g1
                cases g1
                rfl
              | ok vs =>
                rw [e9, ok_bind] at g1
                rw [ok_bind]
                dsimp only
                rw [g1]
                rfl
            rw [eu]
            rfl
      · rintro z h2 hI2 _ ⟨c, hm', e1, ev, f1⟩
        rw [e1] at eq
        have W2 := W.ev hA hI1 ev
        exact hX z h2 c hI2 eq (W2.x (f1.fx (nb_econd c e1)))
end
