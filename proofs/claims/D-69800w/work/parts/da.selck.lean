/-! the component: SELECT is checked whole -/
section
variable {D : JD} {h h' h'' h0 h1 h2 h3 hb : JH} {ρ ρ0 : Nat → Nat} {A A0 : List Nod} {E E' : TEnv} {c r i v k j d e sc n B u x z s nm arr cnt ra rb cn t tt τ itq ik : Nat} {y : Stm} {pt : List Nat} {S S' : Nat → Prop} {w w1 w2 : Str} {L L0 : List (Nat × List (Str × Tab))} {gs : List Nat} {gr ds : Bool} {cs : List SCol} {nd : Nod} {q q0 : List Nod × List SCol} {ss : List (Str × Tab)} {tb : Tab} {T : List Tab} {X : List Nat} {it : Itm} {os : List (Nat ⊕ Nat)} {st : List Nat} {is : List Itm}
/-- the trees of ON with their sources -/
def onL (y : Stm) (ss : List (Str × Tab)) : List (Nat × List (Str × Tab)) := (slF (smS y)).zipIdx.flatMap fun s => (srX s.1).map fun x => (x, ss.take (s.2 + 1))
theorem onL_mem {p : Nat × List (Str × Tab)} : p ∈ onL y ss ↔ ∃ (i : Nat) (s : Src), (slF (smS y))[i]? = some s ∧ s.2.2.2 = some p.1 ∧ p.2 = ss.take (i + 1) := by
  unfold onL
  rw [List.mem_flatMap]
  constructor
  · rintro ⟨⟨s, i⟩, hs, hp⟩
    rw [List.mem_map] at hp
    obtain ⟨x, hx, rfl⟩ := hp
    rw [List.mem_zipIdx_iff_getElem?] at hs
    refine ⟨i, s, hs, ?_, rfl⟩
    have hx : x ∈ s.2.2.2.toList := hx
    rw [Option.mem_toList] at hx
    exact hx
  · rintro ⟨i, s, hs, hx, e⟩
    refine ⟨(s, i), by rw [List.mem_zipIdx_iff_getElem?]; exact hs, ?_⟩
    rw [List.mem_map]
    refine ⟨p.1, ?_, ?_⟩
    · show p.1 ∈ s.2.2.2.toList
      rw [Option.mem_toList]
      exact hx
    · show (p.1, ss.take (i + 1)) = p
      rw [← e]
/-- trees whose places are known before the columns -/
def selL (y : Stm) (ss : List (Str × Tab)) : List (Nat × List (Str × Tab)) := ((onL y ss ++ (smW y).toList.map fun x => (x, ss)) ++ (slG (smS y)).map fun x => (x, ss)) ++ (slH (smS y)).toList.map fun x => (x, ss)
theorem cSelect_eq : cSelect T pt y = (cSrcs T (smA y) pt (slF (smS y)) [] >>= fun ss => tCond (smA y) (ss, pt, false) (smW y) >>= fun _ => cTypes (smA y) (ss, pt, false) (slG (smS y)) >>= fun _ => tCond (smA y) (ss, pt, true) (slH (smS y)) >>= fun _ => hvA (smA y) (ss, pt, true) y >>= fun _ => cItems (cGrouped (smA y) (smS y)) (ss, pt, true) (slG (smS y)) (slI (smS y)) (smA y, []) [] >>= fun r => cOrders (cGrouped (smA y) (smS y)) (slD (smS y)) (ss, pt, true) (slG (smS y)) (slI (smS y)) r.2 r.1.1 r.1.2 (slO (smS y)) [] >>= fun os => .ok (ss, r.1.1, r.1.2, os, cGrouped (smA y) (smS y))) := by
  unfold cSelect hvA
  rfl
theorem SkX.up {c : Str} (k : SkX D S ra rb hb h' z c) (kf : KF chkK h hb) (sf : SFg D S' h hb) (hIb : JInv D hb) (hS : ∀ q, jkd hb q ≠ 0 → S q → S' q) (z1 : jsz hb = jsz h) (z2 : jus hb = jus h) : SkX D S' ra rb h h' z c := by
  obtain ⟨hm, a, b, c, d, e⟩ := k
  exact ⟨hm, kf.tr a, sf.tr (b.mono hS) hIb, by omega, by omega, e⟩
theorem SkP.up (P : SkP D S A ρ sc E pt L ra rb h h1) (hS : ∀ q, jkd h q ≠ 0 → S q → S' q) : SkP D S' A ρ sc E pt L ra rb h h1 := by
  obtain ⟨⟨kf, sf, rest⟩, pl⟩ := P
  exact ⟨⟨kf, sf.mono hS, rest⟩, pl⟩
/-- what a checked SELECT leaves -/
def SelO (D : JD) (T : List Tab) (pt : List Nat) (y : Stm) (ρ0 : Nat → Nat) (sc v e : Nat) (c : CSel) (h h' : JH) : Prop :=
  KF chkK h h' ∧ SFg D (stX h v) h h' ∧ (jsz h' ≤ jsz h + 34 ∧ jus h' ≤ jus h + 187) ∧ (c.1.map (·.1)).Nodup ∧ EnB (c.1, pt, true) ∧ SrT D h' v e T y c.1 ∧ c.2.2.2.2 = cGrouped (smA y) (smS y) ∧
  ∃ hb, SkO D (smA y) ρ0 sc (c.1, pt, true) pt (selL y c.1) v (slG (smS y)) c.2.2.2.2 (slD (smS y)) ((slI (smS y)).flatMap itX ++ (slO (smS y)).map (·.1)) (c.2.1, c.2.2.1) c.2.2.2.1 hb h' ∧ jfr hb 152 v = jfr h' 152 v ∧ jfr hb 156 v = jfr h' 156 v ∧ jfr hb 157 v = jfr h' 157 v ∧ jfr hb 158 v = jfr h' 158 v
theorem w_selCk (hA : NOK (smA y)) (ri : RI ρ (smA y).length) (tr : TreeR D h (smA y) ρ) (eb : EnT D h e T) (hsc : jfr h 23 e = sc) (sC : ScC D h sc ([], pt, false)) (w5 : jfi h 52 sc = 0) (hT : TbT T) (hK : TbK T) (kd : SelR h ρ v y) (xl : ∀ x ∈ slXs y, x < (smA y).length ∧ HB (smA y) n x) (ord : OrA (smA y) (slXs y)) (ow : OW h) (sti : StI D h h v ρ (smA y).length 0) (l12 : (slI (smS y)).length ≤ 12) (n1 : 1 ≤ n) (hd : 4 * n + 42 ≤ d) :
    cX40_check D d v e h (pV D h (fun h' => ∃ c, cSelect T pt y = .ok c ∧ SelO D T pt y ρ sc v e c h h') (fun z h' => ∃ c, cSelect T pt y = .error c ∧ SkX D (stX h v) 34 187 h h' z c)) := by
  obtain ⟨d, rfl, he⟩ := dsucc (show 1 ≤ d by omega)
  obtain ⟨v0, vk⟩ := kd.vk
  obtain ⟨⟨pwI, pwF, pwG, pwO⟩, apI, apF, apW, apG, apH⟩ := sl_apart ord
  have s6 := sC.1.2
  rw [cSelect_eq]
  refine JW.inv fun hI => t_X40_check ⟨eb.1.1, ?_⟩
  rw [hsc]
  refine ⟨(slF (smS y)).length + 1, w_selF hA ri hI tr eb s6 hT kd xl ord (by omega) (fun ss hb hIb e1 ls S => ?_) (fun z h' c hm hI' e1 k1 k2 k3 f => ?_) (slF (smS y)).length [] h (by simp) hI ⟨⟨KF.rf, SF.rf, sC, w5, rfl, rfl⟩, by simp, fun i s _ hi => absurd hi (Nat.not_lt_zero _), fun i s x _ hi => absurd hi (Nat.not_lt_zero _)⟩ rfl⟩
  · obtain ⟨⟨kfb, sfb, sCb, w5b, zb1, zb2⟩, nd, tbl, plb⟩ := S
    rw [e1]
    simp only [ok_bind]
    have kdb : SelR hb ρ v y := kd.sf sfb
    obtain ⟨ebb, seb⟩ := eb.kf kfb hI
    have trb := tr.sf sfb hA hI
    have owb : OW hb := sfb.2.2.2.2.2.2.2.1 ow
    have fvb := (sfb.at vk (by decide)).2.2.2.2.1
    obtain ⟨aS, ks, c1, c2⟩ := kd.src
    have ejs : ∀ i, jar hb (jfr h 144 v) i = jar h (jfr h 144 v) i := (sfb.at aS.2.1 (by decide)).2.2.2.2.2.2 rfl (by decide)
    have aa := kd.arr (a := (157, 159, 16)) (by decide)
    have ej7 : ∀ i, jar hb (jfr h 157 v) i = jar h (jfr h 157 v) i := fun i => (sfb.2.1 _ (by rw [aa.2.1]; decide) (by rw [aa.2.1]; rfl)).2.2.2.2 aa.2.1 (fun z => z) i
    have sr : SrT D hb v e T y ss := by
      refine ⟨ls, fun i s hs => ?_⟩
      obtain ⟨kk, g1, g2, g3, g4⟩ := tbl i s hs (by rw [ls]; exact (List.getElem?_eq_some_iff.mp hs).1)
      refine ⟨kk, g2, g3, ?_⟩
      rw [fvb 144 rfl, ejs, g4]
      exact (eb.tb kfb hI).symm
    have ebn : EnB (ss, pt, true) := by
      refine ⟨by show ss.length ≤ 3; omega, fun t ht => ?_⟩
      obtain ⟨i, il, hi⟩ := List.getElem_of_mem (show t ∈ ss from ht)
      have il' : i < (slF (smS y)).length := by omega
      obtain ⟨kk, g2, g3, _⟩ := sr.2 i _ (List.getElem?_eq_getElem il')
      rw [List.getElem?_eq_getElem il, hi] at g3
      cases g3
      exact (eb.2.2.2.2 kk _ (tbGet_mem g2).2).2.2.1.2.2.2.1
    have nS : ∀ q, jkd hb q ≠ 0 → stX hb v q → stX h v q := fun q _ z => by
      rcases z with z | z | ⟨i, i1, i2⟩
      · exact Or.inl (z.trans (fvb 157 rfl))
      · exact Or.inr (Or.inl (by omega))
      · exact Or.inr (Or.inr ⟨i, i1, by rw [← i2, fvb 157 rfl, ej7]⟩)
    have upX : ∀ {ra rb z c} {h' : JH}, SkX D (fun _ => False) ra rb hb h' z c → ra ≤ 34 → rb ≤ 187 → SkX D (stX h v) 34 187 h h' z c := fun k a b => (k.up kfb sfb.up hIb (fun _ _ z => z.elim) zb1 zb2).mono a b
    have inF : ∀ {i : Nat} {s : Src} {x : Nat}, (slF (smS y))[i]? = some s → s.2.2.2 = some x → x ∈ (slF (smS y)).flatMap srX := fun hs hx => sl_memF (List.mem_of_getElem? hs) hx
    have P0 : SkP D (fun _ => False) (smA y) ρ sc (ss, pt, false) pt (onL y ss) 0 0 hb hb := by
      refine ⟨⟨KF.rf, SFg.rf, trb, sCb, w5b, fun _ _ => rfl, Nat.le_refl _, Nat.le_refl _⟩, fun p hp => ?_⟩
      obtain ⟨i, s, hs, hx, ep⟩ := onL_mem.mp hp
      refine ⟨(xl p.1 (sl_mem (Or.inr (Or.inl (inF hs hx))))).1, ?_⟩
      rw [ep]
      exact (plb i s p.1 hs (by rw [ls]; exact (List.getElem?_eq_some_iff.mp hs).1) hx).env rfl
    have apt : ∀ {x : Nat} {L : List (Nat × List (Str × Tab))}, (∀ p ∈ L, p.1 < ndL (nat_ (smA y) x)) → Apt (smA y) L x := fun H p hp => Or.inl (H p hp)
    have oF : ∀ p ∈ onL y ss, p.1 ∈ (slF (smS y)).flatMap srX := fun p hp => by
      obtain ⟨i, s, hs, hx, ep⟩ := onL_mem.mp hp
      exact inF hs hx
    have mapI : ∀ {l : List Nat} {p : Nat × List (Str × Tab)}, p ∈ l.map (fun x => (x, ss)) → p.1 ∈ l := fun hp => by
      obtain ⟨x, hx, rfl⟩ := List.mem_map.mp hp
      exact hx
    refine useV (w_truthP (n := n) P0 hA ri nd hIb (fun x hx => ⟨(xl x (sl_mem (Or.inr (Or.inr (Or.inl hx))))).1, (xl x (sl_mem (Or.inr (Or.inr (Or.inl hx))))).2, apt fun p hp => (apF _ (oF p hp)).1 x hx⟩) kdb.whe.1 (by omega)) ?_ ?_
    · rintro h2 hI2 _ ⟨t1, t2, P2⟩
      rw [t1]
      simp only [ok_bind]
      refine ⟨(slG (smS y)).length + 1, w_selG (n := n) hA ri nd kdb (fun x hx => ⟨(xl x (sl_mem (Or.inr (Or.inr (Or.inr (Or.inl hx)))))).1, (xl x (sl_mem (Or.inr (Or.inr (Or.inr (Or.inl hx)))))).2, apt fun p hp => ?_⟩) pwG (fun x hx => (xl x (sl_mem (Or.inr (Or.inr (Or.inr (Or.inr (Or.inl hx))))))).1) (by omega) (fun h3 hI3 g1 P3 => ?_) (fun z h' c hI' g1 f => ?_) (slG (smS y)).length 0 h2 (by omega) hI2 (by rw [List.take_zero]; simp only [List.map_nil, List.append_nil]; exact P2) (by rw [List.drop_zero])⟩
      · rcases List.mem_append.mp hp with g | g
        · exact (apF _ (oF p g)).2.1 x hx
        · have := mapI g
          rw [Option.mem_toList] at this
          exact (apW _ this).1 x hx
      · rw [g1]
        simp only [ok_bind]
        have vk3 := (kdb.sf P3.1.2.1 : SelR h3 ρ v y).vk.2
        refine ⟨v0, jboB, ?_⟩
        rintro h4 rfl
        obtain ⟨P4, hI4⟩ := P3.wi (b := if (!(slG (smS y)).isEmpty || (slH (smS y)).isSome) = true then 1 else 0) hA hI3 vk3 (Or.inr rfl)
        refine ⟨(slI (smS y)).length + 1, w_selA (n := n) (g0 := !(slG (smS y)).isEmpty || (slH (smS y)).isSome) hA kdb l12 (fun it hit hs => xl _ (sl_mem (Or.inl (sl_memI hit hs)))) (by omega) (fun h5 hI5 P5 f5 => ?_) (slI (smS y)).length 0 _ (by omega) hI4 P4 (by rw [jfi_wfi, if_pos ⟨rfl, rfl⟩, List.take_zero, List.any_nil, Bool.or_false])⟩
        refine ⟨(slO (smS y)).length + 1, w_selB (n := n) (g0 := (!(slG (smS y)).isEmpty || (slH (smS y)).isSome) || (slI (smS y)).any (itG (smA y))) hA kdb (fun o ho => xl _ (sl_mem (Or.inr (Or.inr (Or.inr (Or.inr (Or.inr (List.mem_map.mpr ⟨o, ho, rfl⟩)))))))) (by omega) (fun h6 hI6 P6 f6 => ?_) (slO (smS y)).length 0 _ (by omega) hI5 P5 (by rw [List.take_zero, List.any_nil, Bool.or_false]; exact f5)⟩
        have egr : ((!(slG (smS y)).isEmpty || (slH (smS y)).isSome) || (slI (smS y)).any (itG (smA y)) || (slO (smS y)).any fun o => tGathers (smA y) (o.1 + 1) o.1) = cGrouped (smA y) (smS y) := by
          unfold cGrouped
          rw [Bool.or_assoc, Bool.or_assoc, Bool.or_assoc]
          rfl
        rw [egr] at f6
        have hgL : ∀ g ∈ slG (smS y), (g, ss) ∈ (onL y ss ++ (smW y).toList.map fun x => (x, ss)) ++ (slG (smS y)).map fun x => (x, ss) := fun g hg => List.mem_append_right _ (List.mem_map.mpr ⟨g, hg, rfl⟩)
        refine w_selH (n := n) P6 hA ri nd ebn hI6 kdb (fun x hx => ⟨(xl x (sl_mem (Or.inr (Or.inr (Or.inr (Or.inr (Or.inl hx))))))).1, (xl x (sl_mem (Or.inr (Or.inr (Or.inr (Or.inr (Or.inl hx))))))).2, apt fun p hp => ?_⟩) hgL (by omega) (fun h7 hI7 a1 a2 P7 G7 f7 => ?_) (fun z h' c hI' g1 f => ?_)
        · rcases List.mem_append.mp hp with g | g
          · rcases List.mem_append.mp g with g' | g'
            · exact (apF _ (oF p g')).2.2.1 x hx
            · have := mapI g'
              rw [Option.mem_toList] at this
              exact (apW _ this).2.1 x hx
          · exact (apG _ (mapI g)).1 x hx
        · rw [a1]
          simp only [ok_bind]
          rw [a2]
          simp only [ok_bind]
          have kd7 : SelR h7 ρ v y := kdb.sf P7.1.2.1
          refine ⟨v0, ?_⟩
          rintro h8 rfl
          obtain ⟨P8, hI8⟩ := P7.wi (b := 0) hA hI7 kd7.vk.2 (Or.inl rfl)
          have ej8 : ∀ i, jar (wfi h7 159 v 0) (jfr hb 157 v) i = jar h (jfr h 157 v) i := fun i => by
            have aab := kdb.arr (a := (157, 159, 16)) (by decide)
            have := (P8.1.2.1.2.1 (jfr hb 157 v) (by rw [aab.2.1]; decide) (by rw [aab.2.1]; rfl)).2.2.2.2 aab.2.1 (fun z => z) i
            rw [this, fvb 157 rfl, ej7]
          have sf8 : SF D h (wfi h7 159 v 0) := sfb.tr P8.1.2.1 hIb
          have G8 : GsK (wfi h7 159 v 0) sc ρ (slG (smS y)) := by
            obtain ⟨⟨g1, g2, g3, g4, g5, g6⟩, g7⟩ := G7
            exact ⟨⟨g1, by rw [jfi_wfi, if_neg (by omega)]; exact g2, g3, g4, g5, g6⟩, g7⟩
          have P8' : SkP D (stX hb v) (smA y) ρ sc (ss, pt, true) pt (selL y ss) 0 0 hb (wfi h7 159 v 0) := P8.up fun _ _ z => z.elim
          have I8 : SkI D (smA y) ρ sc (ss, pt, true) pt (selL y ss) v (slG (smS y)) (cGrouped (smA y) (smS y)) [] (smA y, []) hb (wfi h7 159 v 0) := by
            refine ⟨ρ, selL y ss, [], (List.append_nil _).symm, Nat.le_refl _, hA, ri, fun _ _ => rfl, ⟨P8', G8, ?_, ⟨?_, Nat.zero_le _⟩, fun i c hc => ?_, fun i hi => ?_, fun i j hi hj z z0 => ?_, fun i k hi hk z => ?_, fun i hi => Or.inl ?_⟩, fun p hp => hp, fun p hp => Or.inl hp⟩
            · rw [jfi_wfi, if_neg (by omega)]
              exact f7.trans f6
            · rw [jfi_wfi, if_pos ⟨rfl, rfl⟩]; rfl
            · simp at hc
            · rw [ej8]
              rcases sti.1 i hi with z | z
              · exact Or.inl z
              · exact Or.inr (z.sf sf8 hI)
            · rw [ej8, ej8] at z
              rw [ej8] at z0
              exact sti.2.1 i j hi hj z z0
            · rw [ej8] at z
              exact absurd (sti.2.2.1 i k hi hk z) (Nat.not_lt_zero _)
            · rw [ej8, fvb 157 rfl, ej7]
          have l0 : ∀ p ∈ selL y ss, p.1 < (smA y).length ∧ HB (smA y) n p.1 := fun p hp => by
            unfold selL at hp
            rcases List.mem_append.mp hp with g | g
            · rcases List.mem_append.mp g with g | g
              · rcases List.mem_append.mp g with g | g
                · exact xl _ (sl_mem (Or.inr (Or.inl (oF p g))))
                · have := mapI g
                  rw [Option.mem_toList] at this
                  exact xl _ (sl_mem (Or.inr (Or.inr (Or.inl this))))
              · exact xl _ (sl_mem (Or.inr (Or.inr (Or.inr (Or.inl (mapI g))))))
            · have := mapI g
              rw [Option.mem_toList] at this
              exact xl _ (sl_mem (Or.inr (Or.inr (Or.inr (Or.inr (Or.inl this))))))
          have glL : ∀ g ∈ slG (smS y), g < (smA y).length ∧ (g, ss) ∈ selL y ss := fun g hg => ⟨(xl g (sl_mem (Or.inr (Or.inr (Or.inr (Or.inl hg)))))).1, List.mem_append_left _ (hgL g hg)⟩
          have aI : ∀ x ∈ (slI (smS y)).flatMap itX, Apt (smA y) (selL y ss) x := fun x hx p hp => by
            obtain ⟨b1, b2, b3, b4, b5⟩ := apI x hx
            right
            unfold selL at hp
            rcases List.mem_append.mp hp with g | g
            · rcases List.mem_append.mp g with g | g
              · rcases List.mem_append.mp g with g | g
                · exact b1 _ (oF p g)
                · have := mapI g
                  rw [Option.mem_toList] at this
                  exact b2 _ this
              · exact b3 _ (mapI g)
            · have := mapI g
              rw [Option.mem_toList] at this
              exact b4 _ this
          have aO : ∀ o ∈ slO (smS y), Apt (smA y) (selL y ss) o.1 := fun o ho p hp => by
            have hm : o.1 ∈ (slO (smS y)).map (·.1) := List.mem_map.mpr ⟨o, ho, rfl⟩
            left
            unfold selL at hp
            rcases List.mem_append.mp hp with g | g
            · rcases List.mem_append.mp g with g | g
              · rcases List.mem_append.mp g with g | g
                · exact (apF _ (oF p g)).2.2.2 _ hm
                · have := mapI g
                  rw [Option.mem_toList] at this
                  exact (apW _ this).2.2 _ hm
              · exact (apG _ (mapI g)).2 _ hm
            · have := mapI g
              rw [Option.mem_toList] at this
              exact apH _ this _ hm
          have upY : ∀ {z c} {h' : JH}, SkX D (stX hb v) 34 187 hb h' z c → SkX D (stX h v) 34 187 h h' z c := fun k => k.up kfb sfb.up hIb nS zb1 zb2
          refine ⟨(slI (smS y)).length + 1, w_selI (n := n) (st := []) (q := (smA y, [])) nd ebn hIb kdb owb ebb sr hT hK glL l12 (fun p hp => (l0 p hp).1) hA (fun x hx => ⟨(xl x (sl_mem (Or.inl hx))).1, (xl x (sl_mem (Or.inl hx))).2, aI x hx⟩) pwI (by omega) (fun q' st h9 hI9 g1 I9 => ?_) (fun z h' c hI' g1 f => ?_) (slI (smS y)).length 0 _ (by omega) hI8 (by rw [List.take_zero]; exact I8) (by rw [List.drop_zero])⟩
          · rw [g1]
            simp only [ok_bind]
            obtain ⟨st1, _, st3⟩ := cItems_st _ g1
            have st1' : ∀ k, k < (slI (smS y)).length → st.getD k 0 = isum (ss, pt, true) (slI (smS y)) k := fun k hk => by
              have := st1 k hk
              simp only [List.length_nil, Nat.zero_add] at this
              exact this
            have st3' : q'.2.length = isum (ss, pt, true) (slI (smS y)) (slI (smS y)).length := by
              simp only [List.length_nil, Nat.zero_add] at st3
              exact st3
            refine ⟨(slO (smS y)).length + 1, w_selO (n := n) (st := st) (q := q') (X := (slI (smS y)).flatMap itX) nd ebn hIb kdb rfl ebb sr hT l12 glL l0 hA (fun z hz => ⟨(xl z (sl_mem (Or.inl hz))).1, (xl z (sl_mem (Or.inl hz))).2, fun o ho => (apI z hz).2.2.2.2 _ (List.mem_map.mpr ⟨o, ho, rfl⟩)⟩) (fun o ho => ⟨(xl _ (sl_mem (Or.inr (Or.inr (Or.inr (Or.inr (Or.inr (List.mem_map.mpr ⟨o, ho, rfl⟩)))))))).1, (xl _ (sl_mem (Or.inr (Or.inr (Or.inr (Or.inr (Or.inr (List.mem_map.mpr ⟨o, ho, rfl⟩)))))))).2, aO o ho⟩) pwO n1 st1' st3' (by omega) (fun os ha hIa g2 O => ?_) (fun z h' c hI' g2 f => ?_) (slO (smS y)).length [] h9 (by simp) hI9 (by simp only [List.length_nil, List.take_zero, List.map_nil, List.append_nil]; exact I9.o) (by simp only [List.length_nil, List.drop_zero])⟩
            · obtain ⟨kfa, sga, f8a, za1, za2, _, _⟩ := O.toI.pp
              have fva := (sga.at kdb.vk.2 (by decide)).2.2.2.2.1
              have ejsa : ∀ i, jar ha (jfr hb 144 v) i = jar hb (jfr hb 144 v) i := (sga.at kdb.src.1.2.1 (by decide)).2.2.2.2.2.2 rfl (by decide)
              refine endV fun _ _ => ⟨(ss, q'.1, q'.2, os, cGrouped (smA y) (smS y)), by rw [g2]; rfl, kfb.tr kfa, sfb.up.tr (sga.mono nS) hIb, ⟨by omega, by omega⟩, nd, ebn, ⟨ls, fun i s hs => ?_⟩, rfl, hb, O, (fva 152 rfl).symm, (fva 156 rfl).symm, (fva 157 rfl).symm, (fva 158 rfl).symm⟩
              obtain ⟨kk, b1, b2, b3⟩ := sr.2 i s hs
              refine ⟨kk, b1, b2, ?_⟩
              rw [fva 144 rfl, ejsa, f8a _ (by rw [(kdb.src.2.1 i s hs).2.1]; decide), b3]
              exact (ebb.tb kfa hIb).symm
            · exact fun _ _ => ⟨c, by rw [g2]; rfl, upY f⟩
          · exact fun _ _ => ⟨c, by rw [g1]; rfl, upY f⟩
        · refine fun _ _ => ⟨c, ?_, upX f (by omega) (by omega)⟩
          cases e3 : tCond (smA y) (ss, pt, true) (slH (smS y)) with
          | error z' =>
            rw [e3] at g1
            have g1 : (Except.error z' : Ex Unit) = .error c := g1
            cases g1
            rfl
          | ok u =>
            rw [e3] at g1
            simp only [ok_bind] at g1 ⊢
            rw [g1]
            rfl
      · exact fun _ _ => ⟨c, by rw [g1]; rfl, upX f (by omega) (by omega)⟩
    · rintro z h2 hI2 _ ⟨c, t1, f⟩
      exact fun _ _ => ⟨c, by rw [t1]; rfl, upX f (by omega) (by omega)⟩
  · exact fun _ _ => ⟨c, by rw [e1]; rfl, ⟨hm, k1, SF.up k2, by have := k3.1; omega, by have := k3.2; omega, f⟩⟩
end
