/-! the component: INSERT is worked out whole -/
section
variable {D : JD} {h h' h'' h0 h1 h2 : JH} {ρ : Nat → Nat} {A : List Nod} {E : TEnv} {K K' : Nat → Bool} {q c t u B e sc b i j k v n d xn r : Nat} {M : Nat → Prop} {tb tb' : Tab} {T T' S : List Tab} {pv : List Val} {pt : List Nat} {ra rb : Int} {y : Stm} {x : Val} {f : Nat → Option (List Val)} {R : TRow} {ps : List Nat} {acc : List (List Val)} {vals row : List Val}
theorem New.wfi {F : Nat} {w : Int32} {nn mm : Nat} (k : New h h' nn mm) : New (wfi h F r w) (wfi h' F r w) nn mm := by
  obtain ⟨a1, a2, a3, a4, a5⟩ := k
  refine ⟨fun q hq hM => ?_, a2, a3, a4, a5⟩
  have s := a1 q hq hM
  refine ⟨s.kd, s.ln, fun G => ⟨?_, s.fl G, s.fr G⟩, fun i => ⟨s.ai i, s.al i, s.ar i⟩⟩
  rw [jfi_wfi, jfi_wfi]
  split
  · rfl
  · exact s.fi G
theorem FlX.wfi {w : Int32} {z : Nat} {cc : Str} (k : FlX h h' z cc) (kt : jkd h' t = 5) : FlX (wfi h 46 t w) (wfi h' 46 t w) z cc := by
  obtain ⟨⟨f1, f2, f3, f4⟩, nw⟩ := k
  refine ⟨⟨f1, f2, ?_, ?_⟩, nw.wfi⟩
  · have z1 := f3.2.1
    have z2 := f3.2.2.2.2.1
    exact f3.of (same_wfi fun y => by rw [y] at z1; omega) (same_wfi fun y => by rw [y] at z2; omega)
  · rw [jfi_wfi, if_neg (by omega)]
    exact f4
/-- the rows at the end do not count any more -/
theorem TabR.less (kt : TabR D h1 t (tb.1, tb.2.1, tb.2.2 ++ acc)) (hI1 : JInv D h1) : TF D t h1 (wfi h1 46 t (nI tb.2.2.length)) ∧ TabR D (wfi h1 46 t (nI tb.2.2.length)) t tb := by
  have tf : TF D t h1 (wfi h1 46 t (nI tb.2.2.length)) := TF.fi hI1 kt.1.1.2
  obtain ⟨k1, k2, k3, k4, k5, k6⟩ := kt
  have l : (tb.2.2 ++ acc).length ≤ 100 := k5.2
  rw [List.length_append] at l
  refine ⟨tf, tf.2.2.2.2.1 k1, tf.1.str hI1 k2 ⟨rfl, rfl, rfl, rfl⟩, k3.kf tf.1 hI1 ⟨rfl, rfl⟩ ⟨rfl, rfl, rfl, rfl⟩, by rw [jfi_wfi, if_neg (by omega)]; exact k4, ⟨by rw [jfi_wfi, if_pos ⟨rfl, rfl⟩], by omega⟩, fun k' r' hr' => ?_⟩
  have kl' := (List.getElem?_eq_some_iff.mp hr').1
  obtain ⟨q1, q2⟩ := k6 k' r' (show (tb.2.2 ++ acc)[k']? = some r' by rw [List.getElem?_append, if_pos kl']; exact hr')
  have w10 := k3.2.2.2.1
  have w10 : tb.2.1.length ≤ 10 := w10
  refine ⟨q1, fun c hc => ?_⟩
  have ra := (k1.2.2 k' (by omega)).resolve_left q1
  have kc : jkd h1 (tce h1 t k' c) = 96 := (ra.2.2.2 c (by omega)).2
  refine (q2 c hc).of (same_wfi fun z => ?_) fun h0 => same_wfi fun z => ?_
  · rw [z, k1.1.2] at kc; cases kc
  · have := ((q2 c hc).1.2.2.2.2.resolve_left h0).1
    rw [z, k1.1.2] at this; cases this
theorem uWork2 (y0 : smK y = 2) (hk : tbNeed T (smT y) = .ok k) (etb : T[k]? = some tb) : uWork T pt pv y ps = (uNew (smA y) pt pv tb.2.1 ps (smR y) [] >>= fun rs => xMust (tb.2.2.length + rs.length ≤ 100) "54000" >>= fun _ => uSingles tb.2.1 (tb.2.2 ++ rs) >>= fun _ => .ok (T.set k (tb.1, tb.2.1, tb.2.2 ++ rs), rs.length)) := by
  have ha : tbAt T (smT y) = some k := by
    unfold tbNeed at hk
    cases z : tbAt T (smT y) with
    | none => rw [z] at hk; cases hk
    | some j => rw [z] at hk; cases hk; rfl
  have hg : tbGet T k = tb := by unfold tbGet; rw [List.getD_eq_getElem?_getD, etb]; rfl
  unfold uWork
  rw [y0, ha]
  show (uNew (smA y) pt pv (tbGet T k).2.1 ps (smR y) [] >>= fun rs => xMust ((tbRows (tbGet T k)).length + rs.length ≤ 100) "54000" >>= fun _ => uSingles (tbGet T k).2.1 (tbRows (tbGet T k) ++ rs) >>= fun _ => .ok (tbPut T k (tbRows (tbGet T k) ++ rs), rs.length)) = _
  unfold tbPut tbRows
  rw [hg]
/-- INSERT is worked out -/
theorem w_insWk (dg : JDg D) (C : EvC (smA y) ([], pt, false) ([], pt, false) ρ pv []) (tr : TreeR D h (smA y) ρ) (kd : InsR h ρ v y) (y0 : smK y = 2) (en : EngT D h e T S) (ek : EnK D h e) (hsc : jfr h 23 e = sc) (ep : EnvP D h sc pv) (hk : tbNeed T (smT y) = .ok k) (etb : T[k]? = some tb) (et : jfr h 107 v = tba h (jfr h 20 e) k) (hps : ∀ (j z : Nat), ps[j]? = some z → jai h (jfr h 106 v) j = nI z ∧ z < tb.2.1.length) (l10 : ps.length ≤ 10) (lr : ∀ row ∈ smR y, row.length = ps.length) (xl : ∀ r ∈ smR y, ∀ x ∈ r, x < (smA y).length ∧ HB (smA y) n x ∧ ∃ ty, tType (smA y) ([], pt, false) x = .ok ty) (pl : ∀ r ∈ smR y, ∀ x ∈ r, PlA (smA y) ([], pt, false) h ρ x) (hd : 2 * n + 23 ≤ d) :
    cX23_work D d v e h (pR D h 64 (fun x h' => ∃ T' n', uWork T pt pv y ps = .ok (T', n') ∧ StR h' x (sStr "INSERT 0 " ++ sDigits (Int64.ofNat n')) ∧ jkd h' x = 12 ∧ WkS D (smA y) ρ e sc T' S pv (0 + 8) (0 + 220) h h') (fun z h' => ∃ c, uWork T pt pv y ps = .error c ∧ WkX D e T S 0 0 h h' z c)) := by
  obtain ⟨d, rfl, he⟩ := dsucc (show 1 ≤ d by omega)
  have hA := C.1
  have kl := (List.getElem?_eq_some_iff.mp etb).1
  obtain ⟨N0, ⟨_, v0, vk0⟩, _, _, _, _, _, ⟨c30, c40⟩, _⟩ := id kd
  have eU := uWork2 (pt := pt) (pv := pv) (ps := ps) y0 hk etb
  rw [eU]
  refine JW.inv fun hI => t_X23_work ?_
  have W0 : WkS D (smA y) ρ e sc T S pv 0 0 h h := WkS.rf tr en ek ep
  refine ⟨(smR y).length + 1, w_ins2 (n := n) C hI kd hsc hps l10 lr etb et xl (by omega) (fun h1 acc hI1 W g1 g2 g3 sr => ?_) (fun z h' c hI' g1 g2 => ?_) (smR y).length [] h (by simp) hI W0 (fun r hr => absurd hr List.not_mem_nil) (fun j r hr => by simp at hr) pl (by rw [List.length_nil, List.drop_zero])⟩
  · rw [g1]
    simp only [ok_bind]
    have w4 := W.2.2.2.1
    have w8 := W.2.2.2.2.2.2.2.1
    have tR : TabR D h1 (tba h (jfr h 20 e) k) tb := by
      rw [← w8 k]
      exact w4.2.1.2.2.2 k tb etb
    have l100 := tR.2.2.2.2.1.2
    have e107 : ∀ {T'} {h3 : JH}, WkS D (smA y) ρ e sc T' S pv 0 0 h h3 → jfr h3 107 v = tba h (jfr h 20 e) k := fun {T' h3} W3 => by
      rw [(W3.1.obj hI (by rw [vk0]; decide) (by rw [vk0]; decide) (by rw [vk0]; rfl)).fr]
      exact et
    have e105 : ∀ {T'} {h3 : JH}, WkS D (smA y) ρ e sc T' S pv 0 0 h h3 → jfi h3 105 v = nI acc.length := fun {T' h3} W3 => by
      rw [(W3.1.obj hI (by rw [vk0]; decide) (by rw [vk0]; decide) (by rw [vk0]; rfl)).fi, g2]
      exact c30
    rw [e107 W, e105 W, tR.2.2.2.2.1.1, nI_add]
    refine ⟨tR.1.1.1, fun g => ?_, fun g => ?_⟩
    · have lt : tb.2.2.length + acc.length ≤ 100 := (nI_leI (b := 100) (by omega) (by omega)).mp g
      rw [show xMust (decide (tb.2.2.length + acc.length ≤ 100)) "54000" = .ok () from by unfold xMust; rw [if_pos (decide_eq_true lt)]]
      simp only [ok_bind]
      have W' : WkS D (smA y) ρ e sc (T.set k (tb.1, tb.2.1, tb.2.2 ++ acc.take 0)) S pv 0 0 h h1 := by
        rw [List.take_zero, List.append_nil, show ((tb.1, tb.2.1, tb.2.2) : Tab) = tb from rfl, set_self etb]
        exact W
      refine ⟨acc.length + 1, w_ins133 hA hI kd kl etb et g3 g2 lt (by omega) (fun h2 hI2 W2 => ?_) acc.length 0 h1 (by omega) hI1 W' sr⟩
      have kd2 : InsR h2 ρ v y := kd.sf W2.2.1
      have w42 := W2.2.2.2.1
      have w82 := W2.2.2.2.2.2.2.2.1
      have etr : (T.set k (tb.1, tb.2.1, tb.2.2 ++ acc))[k]? = some (tb.1, tb.2.1, tb.2.2 ++ acc) := by rw [List.getElem?_set, if_pos rfl, if_pos kl]
      have tR2 : TabR D h2 (tba h (jfr h 20 e) k) (tb.1, tb.2.1, tb.2.2 ++ acc) := by
        rw [← w82 k]
        exact w42.2.1.2.2.2 k _ etr
      refine ⟨v0, fun _ => ?_, fun z => absurd (by rw [e105 W2]; exact nI_le (Nat.le_refl _) (by omega)) z⟩
      rw [e107 W2]
      refine ⟨tR2.1.1.1, useV (w_singles tR2 (by omega)) ?_ ?_⟩
      · rintro h3 hI3 _ ⟨u1, he3⟩
        have he3 := he3.symm
        subst he3
        have u1 : uSingles tb.2.1 (tb.2.2 ++ acc) = .ok () := u1
        rw [u1]
        simp only [ok_bind]
        refine w_tag (w := "INSERT 0 ") (n := acc.length) (g := fun hh => jfi hh 105 v) dg hI2 ⟨by decide, by decide +kernel⟩ (by decide +kernel) (by omega) (fun hh ff => ?_) (by omega) (fun v' h' hI' st k12 _ nt => endR fun _ _ _ => ⟨_, _, rfl, st, k12, nt.wk W2 hA hI2⟩)
        have vk2 := (W2.1.2.2.1 v (by rw [vk0]; decide)).trans vk0
        rw [show jfi hh 105 v = jfi h2 105 v from (ff v (hI2.lt (by rw [vk2]; decide)) (fun z => z)).fi 105]
        exact e105 W2
      · rintro z h3 hI3 _ ⟨u1, f1⟩
        have u1 : uSingles tb.2.1 (tb.2.2 ++ acc) = .error (sStr "23505") := u1
        rw [u1]
        have fx : FlX h2 h3 z (sStr "23505") := f1.fx (by decide +kernel)
        have vk2 := (W2.1.2.2.1 v (by rw [vk0]; decide)).trans vk0
        have sv : same h2 h3 v := f1.2.1 v (hI2.lt (by rw [vk2]; decide)) (fun z => z)
        have st : same h2 h3 (tba h (jfr h 20 e) k) := f1.2.1 _ (hI2.lt (by rw [tR2.1.1.2]; decide)) (fun z => z)
        have ln : (tb.2.2 ++ acc).length = tb.2.2.length + acc.length := List.length_append
        have c46 : jfi h2 46 (tba h (jfr h 20 e) k) = nI (tb.2.2.length + acc.length) := by rw [← ln]; exact tR2.2.2.2.2.1.1
        rw [sv.fr, e107 W2, st.fi, c46, sv.fi, e105 W2, pk_sub (by omega), Nat.add_sub_cancel]
        refine ⟨f1.1.2.1, tR2.1.1.1, ?_⟩
        rintro h29 rfl
        obtain ⟨tf, tR4⟩ := tR2.less hI2
        have W4 := W2.tf (tb' := tb) hA hI2 (by rw [List.length_set]; exact kl) (by rw [w82 k]; exact tf) (by rw [w82 k]; exact tR4)
        rw [List.set_set, set_self etb] at W4
        exact ⟨f1.1.1, endX fun _ _ => ⟨_, rfl, W4.x (fx.wfi (by rw [st.kd]; exact tR2.1.1.2))⟩⟩
    · have lt : ¬ tb.2.2.length + acc.length ≤ 100 := fun z => g ((nI_leI (b := 100) (by omega) (by omega)).mpr z)
      rw [show xMust (decide (tb.2.2.length + acc.length ≤ 100)) "54000" = .error (sStr "54000") from by unfold xMust; rw [if_neg (by rw [decide_eq_true_eq]; exact lt)]; rfl]
      refine useR0 (w_fault (w := "54000") ⟨by decide, by decide +kernel⟩ (by omega)) ?_
      rintro z h6 hI6 _ ⟨y1, y2⟩
      exact ⟨y1, endX fun _ _ => ⟨_, rfl, W.x (y2.fx (by decide +kernel))⟩⟩
  · exact endX fun _ _ => ⟨c, by rw [g1]; rfl, g2⟩
end
