/-! the component: UPDATE is checked whole -/
section
variable {D : JD} {h h' h'' h0 h1 h2 : JH} {ρ : Nat → Nat} {A : List Nod} {E : TEnv} {q c r i v k j d e sc n B u : Nat} {y : Stm} {T : List Tab} {pt : List Nat} {ns : List Str} {xs : List Nat} {cs : List Col}
/-- a condition is checked; trees ahead of it keep their places -/
theorem w_truth2 {o : Option Nat} (hA : NOK A) (ri : RI ρ A.length) (hn : (E.1.map (·.1)).Nodup) (tr : TreeR D h A ρ) (sC : ScC D h sc E) (hw : jfi h 52 sc = 0) (ol : ∀ x, o = some x → x < A.length ∧ HB A n x) (kr : OtR ρ r o) (hd : n + 13 ≤ d) :
    cX20_truth D d r sc h (pV D h (fun h' => tCond A E o = .ok () ∧ CkF sc (NM A ρ 0 A.length) h h' ∧ jfi h' 52 sc = 0 ∧ (∀ x, o = some x → PlA A E h' ρ x) ∧ ∀ j, j < A.length → (∀ x, o = some x → j < ndL (nat_ A x)) → PlA A E h ρ j → PlA A E h' ρ j) (fun z h' => ∃ c hm, tCond A E o = .error c ∧ CkF sc (NM A ρ 0 A.length) h hm ∧ Flt hm h' z c)) := by
  obtain ⟨d, rfl, he⟩ := dsucc (show 1 ≤ d by omega)
  cases o with
  | none =>
    have kr : r = 0 := kr
    subst kr
    exact t_X20_truth ⟨fun _ => endV fun _ _ => ⟨rfl, CkF.rf, hw, fun x hx => (by cases hx), fun _ _ _ k => k⟩, fun z => absurd rfl z⟩
  | some x =>
    have kr : r = ρ x := kr
    subst kr
    obtain ⟨xl, hB⟩ := ol x rfl
    have up : ∀ {h1 : JH}, CkF sc (NM A ρ (ndL (nat_ A x)) (x + 1)) h h1 → CkF sc (NM A ρ 0 A.length) h h1 := fun z => z.mono fun q hq => hq.mono (by omega) (by omega)
    refine t_X20_truth ⟨fun z => absurd z (tr x xl).1, fun _ => useCk1 (w_check hA ri hn (x + 1) x false h d n (by omega) xl hB (by omega) tr sC hw) ?_ ?_⟩
    · rintro v1 h1 hI1 ⟨t, t1, rfl, t3, t4, t5, t6, t7⟩
      have et : tCond A E (some x) = tFits t 16 := by
        show (tType A E x >>= fun t => tFits t 16) = _
        unfold tType
        rw [t1]; rfl
      show cX24_need D d (tyc D t) (tyc D 16) h1 _
      refine useV (w_tneed t3 (Or.inr (Or.inl rfl)) (by omega)) ?_ ?_
      · rintro h2 hI2 _ ⟨f1, he2⟩
        have he2 := he2.symm
        subst he2
        exact endV fun _ _ => ⟨et.trans f1, up t5, by rw [t6]; exact hw, fun x' hx' => (by cases hx'; exact PlT.all hA _ _ (Nat.lt_succ_self _) xl t7), fun j jl hj k => k.ck hA ri t5 jl (Or.inr (hj x rfl))⟩
      · rintro z h2 hI2 _ ⟨f1, f2⟩
        exact fun _ _ => ⟨_, h1, et.trans f1, up t5, f2⟩
    · rintro z h1 hI1 ⟨c, hm, c1, c2, c3⟩
      refine fun _ _ => ⟨c, hm, ?_, up c2, c3⟩
      show (tType A E x >>= fun t => tFits t 16) = _
      unfold tType
      rw [c1]; rfl
/-- UPDATE is checked -/
theorem w_updCk (hA : NOK (smA y)) (ri : RI ρ (smA y).length) (tr : TreeR D h (smA y) ρ) (eb : EnT D h e T) (hsc : jfr h 23 e = sc) (sp : ScP D h sc pt) (hT : TbT T) (kd : UpdR h ρ v y) (y0 : smK y = 3) (ol : ∀ x, smW y = some x → x < (smA y).length ∧ HB (smA y) n x) (xl : ∀ r ∈ smR y, ∀ x ∈ r, x < (smA y).length ∧ HB (smA y) n x) (ord : OrA (smA y) (smX y)) (hd : n + 21 ≤ d) :
    cX37_check D d v e h (pV D h (fun h' => ∃ ps k, cOther T pt y = .ok ps ∧ KF chkK h h' ∧ SF D h h' ∧ (jsz h' = jsz h ∧ jus h' = jus h) ∧ tbNeed T (smT y) = .ok k ∧ k < T.length ∧ jfr h' 138 (jfr h' 130 v) = tba h' (jfr h' 20 e) k ∧ ScC D h' sc ([(smT y, tbGet T k)], pt, false) ∧ ps.length = (smN y).length ∧ (∀ (j z : Nat), ps[j]? = some z → jai h' (jfr h' 134 v) j = nI z ∧ z < (tbGet T k).2.1.length) ∧ (∀ r ∈ smR y, ∀ x ∈ r, PlA (smA y) ([(smT y, tbGet T k)], pt, false) h' ρ x) ∧ ∀ x, smW y = some x → PlA (smA y) ([(smT y, tbGet T k)], pt, false) h' ρ x) (fun z h' => ∃ c hm, cOther T pt y = .error c ∧ KF chkK h hm ∧ SF D h hm ∧ (jsz hm = jsz h ∧ jus hm = jus h) ∧ Flt hm h' z c)) := by
  obtain ⟨d, rfl, he⟩ := dsucc (show 1 ≤ d by omega)
  obtain ⟨xs, ex, us, ow⟩ := kd
  have us0 := us
  obtain ⟨⟨_, v0, vk⟩, rr, ⟨_, n1, n2⟩, ⟨_, x1, x2⟩, a1, c1, c2, c3⟩ := us
  have eo : cOther T pt y = (tbNeed T (smT y) >>= fun k => cSets (smA y) ([(smT y, tbGet T k)], pt, false) (tbGet T k).2.1 ((smN y).zip xs) [] >>= fun ps => tCond (smA y) ([(smT y, tbGet T k)], pt, false) (smW y) >>= fun _ => .ok ps) := by
    unfold cOther
    rw [y0]
    show (tbNeed T (smT y) >>= fun k => cSets (smA y) ([(smT y, tbGet T k)], pt, false) (tbGet T k).2.1 ((smN y).zip ((smR y).headD [])) [] >>= fun ps => tCond (smA y) ([(smT y, tbGet T k)], pt, false) (smW y) >>= fun _ => .ok ps) = _
    rw [ex]; rfl
  have sX : smX y = xs ++ (smW y).toList := by unfold smX; rw [ex, List.flatten_singleton]
  rw [sX] at ord
  have xm : ∀ x ∈ xs, x < (smA y).length ∧ HB (smA y) n x := xl xs (by rw [ex]; exact List.mem_singleton.mpr rfl)
  refine JW.inv fun hI => t_X37_check ⟨v0, useV (w_known eb hsc sp hT rr (Or.inl vk) v0 (by omega)) ?_ ?_⟩
  · rintro h1 hI1 _ ⟨k, e1, kl, e2, sC, w5, kf, sf, ef, z1, z2⟩
    have tr1 := tr.sf sf hA hI
    have s6 := sC.1.2
    rw [e1, ok_bind] at eo
    have tg : tbGet T k = T[k] := by unfold tbGet; rw [List.getD_eq_getElem?_getD, List.getElem?_eq_getElem kl]; rfl
    have tR : TabR D h1 (tba h (jfr h 20 e) k) (tbGet T k) := by
      rw [tg]
      exact (eb.2.2.2.2 k _ (List.getElem?_eq_getElem kl)).kf kf hI ktb_chk
    have us1 : UpS 0 h1 ρ v (smT y) (smN y) xs := by
      obtain ⟨xs', q1, q2, q3⟩ := (show UpdR h ρ v y from ⟨xs, ex, us0, ow⟩).sf sf
      rw [ex] at q1
      cases q1
      exact q2
    have fin : ∀ {h2 : JH}, KF chkK h1 h2 → (∀ F q, F ≠ 109 → jfr h2 F q = jfr h1 F q) → jfr h2 138 (jfr h2 130 v) = tba h2 (jfr h2 20 e) k := fun {h2} kf2 fr => by
      unfold tba
      rw [fr 130 v (by decide), fr 138 _ (by decide), fr 20 e (by decide), fr 40 _ (by decide), ef 130 v (by decide), e2, ef 20 e (by decide), ef 40 _ (by decide)]
      have s2 := (eb.2.2.1.kf (kf.tr kf2) hI ktb_chk).2.2
      rw [s2.ar]
      rfl
    refine ⟨(smN y).length + 1, w_updK (arr := jfr h1 134 v) hA ri (by simp) hI1 tr1 us1 rfl tR (fun c hc => by rw [tg] at hc; exact hT _ (List.getElem_mem kl) c hc) (by rw [ef 130 v (by decide)]; exact e2) ((ef 23 e (by decide)).trans hsc) s6 eb.1.1 xm (fun j k' x z hjk hx hz => ?_) (by omega) (fun ps h2 hI2 q1 q2 S => ?_) (fun z h' c hm hI' q1 q2 q3 q4 f => ?_) (smN y).length [] h1 (by simp) hI1 ⟨KF.rf, SF.rf, UcF.rf, sC, w5, fun j z hz => (by simp at hz), fun j x hj => absurd hj (Nat.not_lt_zero _)⟩ rfl⟩
    · refine ord.ord j k' x z hjk ?_ ?_
      · rw [List.getElem?_append, if_pos (List.getElem?_eq_some_iff.mp hx).1]; exact hx
      · rw [List.getElem?_append, if_pos (List.getElem?_eq_some_iff.mp hz).1]; exact hz
    · obtain ⟨kf2, sf2, uf2, sC2, w52, hp2, hl2⟩ := S
      have tr2 := tr1.sf sf2 hA hI1
      rw [q1, ok_bind] at eo
      rw [uf2.2.1 131 v (by decide), ef 131 v (by decide), uf2.2.1 23 e (by decide), ef 23 e (by decide), hsc]
      refine useV (w_truth2 hA ri (by simp) tr2 sC2 w52 ol ow (by omega)) ?_ ?_
      · rintro h3 hI3 _ ⟨t1, t2, t3, t4, t5⟩
        have s62 := sC2.1.2
        have kf3 := kf2.tr (t2.kf tr2 hI2 s62)
        have uf3 := uf2.tr t2.uc
        refine endV fun _ _ => ⟨ps, k, by rw [eo, t1]; rfl, kf.tr kf3, (sf.tr sf2 hI1).tr (t2.sf hA hI2 tr2 s62) hI2, ⟨(uf3.2.2.2.2.1).trans z1, (uf3.2.2.2.2.2).trans z2⟩, e1, kl, fin kf3 uf3.2.1, sC2.ck t2 tr2.nd, q2, fun j z hz => ?_, fun r hr x hx => ?_, t4⟩
        · rw [uf3.2.1 134 v (by decide), (t2.2.2.1 _ j).2.1]
          exact hp2 j z hz
        · rw [ex] at hr
          rw [List.mem_singleton.mp hr] at hx
          obtain ⟨j, jl, hj⟩ := List.getElem_of_mem hx
          have hj' : xs[j]? = some x := by rw [List.getElem?_eq_getElem jl, hj]
          refine t5 x (xm x hx).1 (fun w hw => ?_) (hl2 j x (by omega) hj')
          refine ord.ord j xs.length x w jl ?_ ?_
          · rw [List.getElem?_append, if_pos jl]; exact hj'
          · rw [List.getElem?_append, if_neg (Nat.lt_irrefl _), Nat.sub_self, hw]; rfl
      · rintro z h3 hI3 _ ⟨c, hm, c1', c2', c3'⟩
        have s62 := sC2.1.2
        exact fun _ _ => ⟨c, hm, by rw [eo, c1']; rfl, (kf.tr kf2).tr (c2'.kf tr2 hI2 s62), (sf.tr sf2 hI1).tr (c2'.sf hA hI2 tr2 s62) hI2, ⟨(c2'.2.1.1.trans uf2.2.2.2.2.1).trans z1, (c2'.2.1.2.trans uf2.2.2.2.2.2).trans z2⟩, c3'⟩
    · exact fun _ _ => ⟨c, hm, by rw [eo, q1]; rfl, kf.tr q2, sf.tr q3 hI1, ⟨q4.1.trans z1, q4.2.trans z2⟩, f⟩
  · rintro z h1 hI1 _ ⟨e1, f⟩
    exact fun _ _ => ⟨_, h, by rw [eo, e1]; rfl, KF.rf, SF.rf, ⟨rfl, rfl⟩, f⟩
end
