/-! the component: columns that a star stands for -/
section
variable {D : JD} {h h' h'' h0 h1 h2 : JH} {ρ : Nat → Nat} {A : List Nod} {E E' : TEnv} {q c r i v k j d e sc n B u x z s nm arr cnt : Nat} {y : Stm} {S : Nat → Prop} {w1 w2 : Str}
/-- only the star x and its place in arr have changed -/
def StF (h h' : JH) (x arr cnt : Nat) : Prop :=
  fr (jsz h) (fun q => q = x ∨ q = arr) h h' ∧ (x ≤ jsz h → jkd h' x = jkd h x ∧ jln h' x = jln h x ∧ (∀ F, jfi h' F x = jfi h F x ∧ jfl h' F x = jfl h F x ∧ (F ≠ 117 → F ≠ 118 → jfr h' F x = jfr h F x)) ∧ ∀ i, jai h' x i = jai h x i ∧ jal h' x i = jal h x i ∧ jar h' x i = jar h x i) ∧
  (jkd h' arr = jkd h arr ∧ jln h' arr = jln h arr ∧ (∀ F, jfi h' F arr = jfi h F arr ∧ jfl h' F arr = jfl h F arr ∧ jfr h' F arr = jfr h F arr) ∧ (∀ i, jai h' arr i = jai h arr i ∧ jal h' arr i = jal h arr i) ∧ ∀ i, i ≠ cnt → jar h' arr i = jar h arr i) ∧ (jsz h ≤ jsz h' ∧ jsz h' ≤ jsz h + 2 ∧ jus h' ≤ jus h + 11) ∧ OW h'
theorem StF.kd (a : StF h h' x arr cnt) (hI : JInv D h) (hq : jkd h q ≠ 0) : jkd h' q = jkd h q := by
  by_cases z1 : q = x
  · rw [z1]; exact (a.2.1 (by rw [← z1]; exact hI.lt hq)).1
  · by_cases z2 : q = arr
    · rw [z2]; exact a.2.2.1.1
    · exact (a.1 q (hI.lt hq) (fun z => by rcases z with z | z; exact z1 z; exact z2 z)).kd
theorem StF.obj (a : StF h h' x arr cnt) (hI : JInv D h) (hx : x ≤ jsz h → jkd h x = 24) (ha : jkd h arr = 159) (hq : jkd h q ≠ 0) (q1 : jkd h q ≠ 24) (q2 : jkd h q ≠ 159) : same h h' q :=
  a.1 q (hI.lt hq) fun z => by
    rcases z with z | z
    · exact q1 (by rw [z]; exact hx (by rw [← z]; exact hI.lt hq))
    · exact q2 (by rw [z]; exact ha)
theorem StF.str (a : StF h h' x arr cnt) (hI : JInv D h) (hx : x ≤ jsz h → jkd h x = 24) (ha : jkd h arr = 159) (k : StR h q w1) : StR h' q w1 := by
  have z1 := k.2.1
  have z2 := k.2.2.2.2.1
  exact k.of (a.obj hI hx ha (by omega) (by omega) (by omega)) (a.obj hI hx ha (by omega) (by omega) (by omega))
theorem StF.sg (a : StF h h' x arr cnt) (hI : JInv D h) (hx : x ≤ jsz h → jkd h x = 24) (ha : jkd h arr = 159) : SFg D (fun q => q = x ∨ q = arr) h h' := by
  have sm : ∀ q, jkd h q ≠ 0 → jkd h q ≠ 24 → jkd h q ≠ 159 → same h h' q := fun q q0 q1 q2 => a.obj hI hx ha q0 q1 q2
  have cs : ∀ c, CelW D h c → same h h' c ∧ (jfr h 67 c ≠ 0 → same h h' (jfr h 67 c)) := fun c cw => by
    have kc := cw.kd
    refine ⟨sm c (by omega) (by omega) (by omega), fun z => ?_⟩
    have := (cw.2.2.2.2.resolve_left z).1
    exact sm _ (by omega) (by omega) (by omega)
  refine ⟨fun q hq => a.kd hI hq, fun q hq _ => ?_, fun q hq => (sm q (by omega) (by omega) (by omega)).fr 109, fun q _ cw => cs _ cw, fun c _ _ cw => cs c cw, fun c _ cw => cw.of (cs c cw).1 (cs c cw).2, fun q w k => a.str hI hx ha k, fun _ => a.2.2.2.2, a.2.2.2.1.1⟩
  by_cases z1 : q = x
  · subst z1
    obtain ⟨b1, b2, b3, b4⟩ := a.2.1 (hI.lt hq)
    have k24 := hx (hI.lt hq)
    exact ⟨b2, fun F => ⟨fun _ => (b3 F).1, (b3 F).2.1, fun _ g => (b3 F).2.2 (g k24 (Or.inl rfl)).1 (g k24 (Or.inl rfl)).2⟩, fun _ i => ⟨(b4 i).1, (b4 i).2.1⟩, fun _ _ i => (b4 i).2.2, fun _ _ i => (b4 i).2.2⟩
  · by_cases z2 : q = arr
    · subst z2
      obtain ⟨b1, b2, b3, b4, b5⟩ := a.2.2.1
      exact ⟨b2, fun F => ⟨fun _ => (b3 F).1, (b3 F).2.1, fun _ _ => (b3 F).2.2⟩, fun _ i => b4 i, fun _ g => absurd ha g, fun _ g => absurd (Or.inr rfl) g⟩
    · have s : same h h' q := a.1 q (hI.lt hq) fun z => by rcases z with z | z; exact z1 z; exact z2 z
      exact ⟨s.ln, fun F => ⟨fun _ => s.fi F, s.fl F, fun _ _ => s.fr F⟩, fun _ i => ⟨s.ai i, s.al i⟩, fun _ _ i => s.ar i, fun _ _ i => s.ar i⟩
theorem StF.kf (a : StF h h' x arr cnt) (hI : JInv D h) (hx : x ≤ jsz h → jkd h x = 24) (ha : jkd h arr = 159) : KF chkK h h' := by
  refine ⟨fun q q1 q2 q3 _ => a.obj hI hx ha q2 (fun z => ?_) (fun z => ?_), a.2.2.2.1.1, fun q hq => a.kd hI hq, fun _ => a.2.2.2.2⟩
  · rw [z] at q3; cases q3
  · rw [z] at q3; cases q3
/-- a frame that leaves scopes, arrays of sources and so on -/
theorem ScC.obj (k : ScC D h sc E) (hI : JInv D h) (sm : ∀ q, jkd h q ≠ 0 → jkd h q ≠ 24 → jkd h q ≠ 159 → same h h' q) : ScC D h' sc E := by
  obtain ⟨k1, ⟨k3, k4, k5, k6, k7⟩, ⟨p1, p2, p3, p4⟩, k12⟩ := k
  have s1 := sm sc (by rw [k1.2]; decide) (by rw [k1.2]; decide) (by rw [k1.2]; decide)
  have k41 : jkd h (jfr h 47 sc) = 141 := hI.ref (F := 47) (by decide +kernel) k3
  have s2 := sm (jfr h 47 sc) (by rw [k41]; decide) (by rw [k41]; decide) (by rw [k41]; decide)
  have k49 : sbt (jkd h (jfr h 49 sc)) (ftg 49) = true := Or.resolve_left (hI.2.2.1 49 sc) p1
  have n49 : jkd h (jfr h 49 sc) ≠ 0 ∧ jkd h (jfr h 49 sc) ≠ 24 ∧ jkd h (jfr h 49 sc) ≠ 159 := by
    refine ⟨fun z => ?_, fun z => ?_, fun z => ?_⟩ <;> rw [z] at k49 <;> exact absurd k49 (by decide +kernel)
  have s3 := sm (jfr h 49 sc) n49.1 n49.2.1 n49.2.2
  have st : ∀ q w, StR h q w → StR h' q w := fun q w z => by
    have z1 := z.2.1
    have z2 := z.2.2.2.2.1
    exact z.of (sm q (by omega) (by omega) (by omega)) (sm _ (by omega) (by omega) (by omega))
  refine ⟨⟨k1.1, by rw [s1.kd]; exact k1.2⟩, ⟨by rw [s1.fr]; exact k3, by rw [s1.fr, s2.ln]; exact k4, by rw [s1.fi]; exact k5, k6, fun j q hq => ?_⟩, ⟨by rw [s1.fr]; exact p1, by rw [s1.fr, s3.ln]; exact p2, p3, fun j t ht => by rw [s1.fr, s3.ar]; exact p4 j t ht⟩, by rw [s1.fi]; exact k12⟩
  obtain ⟨a1, a2, a3, t1, t2, t3, t4, t5, t6, t7⟩ := k7 j q hq
  have s4 := sm (jar h (jfr h 47 sc) j) (by rw [a2]; decide) (by rw [a2]; decide) (by rw [a2]; decide)
  have k5' : jkd h (jfr h 138 (jar h (jfr h 47 sc) j)) = 5 := hI.ref (F := 138) (by decide +kernel) t1
  have s5 := sm _ (show jkd h (jfr h 138 (jar h (jfr h 47 sc) j)) ≠ 0 by rw [k5']; decide) (by rw [k5']; decide) (by rw [k5']; decide)
  have k43 : sbt (jkd h (jfr h 43 (jfr h 138 (jar h (jfr h 47 sc) j)))) (ftg 43) = true := Or.resolve_left (hI.2.2.1 43 _) t3
  have f := f43 _ (sbt_lt k43) k43
  have s6 := sm _ f.1 f.2.2.1 f.2.2.2.1
  rw [s1.fr, s2.ar]
  refine ⟨a1, by rw [s4.kd]; exact a2, by rw [s4.fr]; exact st _ _ a3, ?_⟩
  rw [s4.fr]
  refine ⟨t1, by rw [s5.kd]; exact t2, by rw [s5.fr]; exact t3, by rw [s5.fi]; exact t4, by rw [s5.fr, s6.ln]; exact t5, by rw [s5.fr, s6.ln]; exact t6, fun i v hv => ?_⟩
  obtain ⟨cr, c7⟩ := t7 i v hv
  rw [s5.fr, s6.ar]
  exact ⟨cr.of (sm _ (by rw [cr.2.1]; decide) (by rw [cr.2.1]; decide) (by rw [cr.2.1]; decide)) st, c7⟩
theorem GsK.obj {gs : List Nat} (g : GsK h sc ρ gs) (s6 : jkd h sc = 6) (sm : ∀ q, jkd h q ≠ 0 → jkd h q ≠ 24 → jkd h q ≠ 159 → same h h' q) : GsK h' sc ρ gs := by
  obtain ⟨⟨g1, g2, g3, g4, g5, g6⟩, g7⟩ := g
  have s1 := sm sc (by rw [s6]; decide) (by rw [s6]; decide) (by rw [s6]; decide)
  have s2 := sm (jfr h 53 sc) (by rw [g7]; decide) (by rw [g7]; decide) (by rw [g7]; decide)
  exact ⟨⟨g1, by rw [s1.fi]; exact g2, by rw [s1.fr]; exact g3, by rw [s1.fr, s2.ln]; exact g4, by rw [s1.fr, s2.ln]; exact g5, fun k x hx => by rw [s1.fr, s2.ar]; exact g6 k x hx⟩, by rw [s1.fr, s2.kd]; exact g7⟩
/-- Select.star -/
theorem w_star (vk : v ≠ 0 ∧ jkd h v = 33) (aA : AR h (jfr h 157 v) 159 16) (ec : jfi h 159 v = nI cnt) (hc : cnt ≤ 16) (hx : ∀ i, i < 16 → jar h (jfr h 157 v) i = 0 ∨ StrO D h (jar h (jfr h 157 v) i)) (ow : OW h) (hs : StR h s w1) (hn : StR h nm w2) (hd : 5 ≤ d) :
    cX40_star D d v s nm h (pR D h 24 (fun x h' => StF h h' x (jfr h 157 v) cnt ∧ StrO D h' x ∧ StR h' (jfr h' 117 x) w1 ∧ StR h' (jfr h' 118 x) w2 ∧ (cnt < 16 → jar h' (jfr h 157 v) cnt = x) ∧ (x ≤ jsz h → cnt < 16 ∧ jar h (jfr h 157 v) cnt = x)) no) := by
  obtain ⟨d, rfl, he⟩ := dsucc (show 1 ≤ d by omega)
  obtain ⟨v0, vk⟩ := vk
  obtain ⟨a0, aK, aL⟩ := aA
  refine JW.inv fun hI => ?_
  have hl1 := hs.lt hI
  have hl2 := hn.lt hI
  have al : jfr h 157 v ≤ jsz h := hI.refl
  have vl : v ≤ jsz h := hI.lt (by rw [vk]; decide)
  have sk1 := hs.2.1
  have sk2 := hs.2.2.2.2.1
  have nk1 := hn.2.1
  have nk2 := hn.2.2.2.2.1
  have raw : Raw (nwo h 24 6) (jsz h + 1) 24 := ⟨Nat.succ_ne_zero _, Nat.le_refl _, by simp only [jkd_wfi, jln_wfi, jfi_wfi, jfl_wfi, jfr_wfi, jai_wfi, jal_wfi, jar_wfi, jsz_wfi, jus_wfi, jkd_wfl, jln_wfl, jfi_wfl, jfl_wfl, jfr_wfl, jai_wfl, jal_wfl, jar_wfl, jsz_wfl, jus_wfl, jkd_wfr, jln_wfr, jfi_wfr, jfl_wfr, jfr_wfr, jai_wfr, jal_wfr, jar_wfr, jsz_wfr, jus_wfr, jkd_wai, jln_wai, jfi_wai, jfl_wai, jfr_wai, jai_wai, jal_wai, jar_wai, jsz_wai, jus_wai, jkd_wal, jln_wal, jfi_wal, jfl_wal, jfr_wal, jai_wal, jal_wal, jar_wal, jsz_wal, jus_wal, jkd_war, jln_war, jfi_war, jfl_war, jfr_war, jai_war, jal_war, jar_war, jsz_war, jus_war, jkd_nwo, jln_nwo, jfi_nwo, jfl_nwo, jfr_nwo, jai_nwo, jal_nwo, jar_nwo, jsz_nwo, jus_nwo, jkd_nwa, jln_nwa, jfi_nwa, jfl_nwa, jfr_nwa, jai_nwa, jal_nwa, jar_nwa, jsz_nwa, jus_nwa, jkd_cpa, jln_cpa, jfi_cpa, jfl_cpa, jfr_cpa, jai_cpa, jal_cpa, jar_cpa, jsz_cpa, jus_cpa, if_true], by show jfr h 108 (jsz h + 1) = 0; exact hI.zr (Nat.lt_succ_self _) 108⟩
  have mk : ∀ {h10 : JH}, MkN D (nwo h 24 6) h10 (jsz h + 1) → JInv D (nwo h 24 6) → fr (jsz h) (fun q => q = jsz h + 1) h h10 ∧ jsz h10 = jsz h + 2 ∧ jus h10 = jus h + 11 ∧ OW h10 ∧ jkd h10 (jsz h + 1) = 24 ∧ CelW D h10 (jfr h10 108 (jsz h + 1)) ∧ jkd h10 (jfr h10 108 (jsz h + 1)) = 98 ∧ StR h10 s w1 ∧ StR h10 nm w2 := by
    intro h10 m hI7
    have f : fr (jsz h) (fun q => q = jsz h + 1) h h10 := (fr_nwo (Nat.le_refl _)).tr (m.1.mono (show jsz h ≤ jsz h + 1 by omega) fun _ _ z => z)
    have ow7 : OW (nwo h 24 6) := ow
    refine ⟨f, m.2.1, m.2.2.1, m.ow hI7 ow7, m.2.2.2.2.2.2.1.trans raw.2.2.1, ?_, ?_, hs.fr hI f (by omega) (by omega), hn.fr hI f (by omega) (by omega)⟩
    · rw [m.2.2.2.1]; exact m.2.2.2.2.2.1.1
    · rw [m.2.2.2.1]; exact m.2.2.2.2.1
  refine t_X40_star ⟨v0, fun g => ?_, fun g => ?_⟩
  · have c16 : cnt < 16 := by
      rcases Nat.lt_or_ge cnt 16 with z | z
      · exact z
      · have : cnt = 16 := by omega
        rw [ec, this] at g
        exact absurd rfl g
    have ix : ixn (nI cnt) = cnt := ixn_nI (by omega)
    rw [ec, ix]
    refine ⟨a0, by rw [aL]; exact jin_nI c16 (by decide), fun g1 => ?_, fun g1 => ?_⟩
    · have so := (hx cnt c16).resolve_left g1
      refine ⟨v0, ?_⟩
      rw [ec, ix]
      refine ⟨a0, by rw [aL]; exact jin_nI c16 (by decide), g1, JW.up (n := 1) (fun dd => useR0 (k_again (d := dd) g1) ?_) (by omega)⟩
      rintro v7 h5 hI5 _ ⟨rfl, rfl⟩
      obtain ⟨x0, xk, xc⟩ := so
      generalize hxe : jar h (jfr h 157 v) cnt = x at x0 xk xc
      have ef : ∀ F q, F ≠ 117 → F ≠ 118 → jfr (wfr (wfr h 117 x s) 118 x nm) F q = jfr h F q := fun F q h1 h2 => by rw [jfr_wfr, if_neg (fun z => h2 z.1), jfr_wfr, if_neg (fun z => h1 z.1)]
      have sm : ∀ q, q ≠ x → same h (wfr (wfr h 117 x s) 118 x nm) q := fun q hq => (same_wfr hq).tr (same_wfr hq)
      have sA := sm (jfr h 157 v) fun z => by rw [z, xk] at aK; cases aK
      have ck := xc.kd
      refine endR fun _ _ _ => ⟨⟨fun q _ hM => sm q fun z => hM (Or.inl z), fun _ => ⟨rfl, rfl, fun F => ⟨rfl, rfl, fun h1 h2 => ef F x h1 h2⟩, fun _ => ⟨rfl, rfl, rfl⟩⟩, ⟨sA.kd, sA.ln, fun F => ⟨sA.fi F, sA.fl F, sA.fr F⟩, fun i => ⟨sA.ai i, sA.al i⟩, fun i _ => sA.ar i⟩, ⟨Nat.le_refl _, Nat.le_add_right _ _, Nat.le_add_right _ _⟩, fun F a b hF => ?_⟩, ⟨x0, xk, ?_⟩, ?_, ?_, fun _ => ?_, fun _ => ⟨c16, rfl⟩⟩
      · rw [ef F a (by omega) (by omega), ef F b (by omega) (by omega)]
        exact ow F a b hF
      · rw [ef 108 x (by decide) (by decide)]
        refine xc.of (sm _ fun z => by rw [z] at ck; omega) fun z => sm _ fun z' => ?_
        have := (xc.2.2.2.2.resolve_left z).1
        rw [z'] at this; omega
      · rw [show jfr (wfr (wfr h 117 x s) 118 x nm) 117 x = s from by rw [jfr_wfr, if_neg (by omega), jfr_wfr, if_pos ⟨rfl, rfl⟩]]
        exact hs.of (sm s fun z => by rw [z] at sk1; omega) (sm _ fun z => by rw [z] at sk2; omega)
      · rw [show jfr (wfr (wfr h 117 x s) 118 x nm) 118 x = nm from by rw [jfr_wfr, if_pos ⟨rfl, rfl⟩]]
        exact hn.of (sm nm fun z => by rw [z] at nk1; omega) (sm _ fun z => by rw [z] at nk2; omega)
      · rw [sA.ar]; exact hxe
    · rintro r6 h7 rfl rfl
      refine JW.inv fun hI7 => JW.up (n := 3) (fun dd => useV0 (k_colInit (d := dd) (x := s) (y := nm) raw) ?_) (by omega)
      rintro h10 hI10 _ ⟨m, e1, e2, _⟩
      obtain ⟨f, s1, s2, ow10, k10, c10, c98, t1, t2⟩ := mk m hI7
      have sv := f v vl (by omega)
      have sA := f (jfr h 157 v) al (by omega)
      have tk1 := t1.2.1
      have tk2 := t1.2.2.2.2.1
      have uk1 := t2.2.1
      have uk2 := t2.2.2.2.2.1
      have aK10 := sA.kd.trans aK
      refine ⟨by rw [sA.ln, aL]; exact jin_nI c16 (by decide), ?_⟩
      rintro h14 rfl
      have e157 : jfr (war h10 (jfr h 157 v) cnt (jsz h + 1)) 157 v = jfr h 157 v := sv.fr 157
      have e159 : jfi (war h10 (jfr h 157 v) cnt (jsz h + 1)) 159 v = nI cnt := (sv.fi 159).trans ec
      have ea : jar (war h10 (jfr h 157 v) cnt (jsz h + 1)) (jfr h 157 v) cnt = jsz h + 1 := by rw [jar_war, if_pos ⟨rfl, rfl⟩]
      refine ⟨v0, ?_⟩
      rw [e157, e159, ix, ea]
      refine ⟨a0, by show jin _ (jln h10 (jfr h 157 v)); rw [sA.ln, aL]; exact jin_nI c16 (by decide), Nat.succ_ne_zero _, JW.up (n := 1) (fun dd => useR0 (k_again (d := dd) (Nat.succ_ne_zero _)) ?_) (by omega)⟩
      rintro v7 h5 hI5 _ ⟨rfl, rfl⟩
      have ef : ∀ F q, F ≠ 117 → F ≠ 118 → jfr (wfr (wfr (war h10 (jfr h 157 v) cnt (jsz h + 1)) 117 (jsz h + 1) s) 118 (jsz h + 1) nm) F q = jfr h10 F q := fun F q h1 h2 => by
        rw [jfr_wfr, if_neg (fun z => h2 z.1), jfr_wfr, if_neg (fun z => h1 z.1)]
        rfl
      have sm : ∀ q, q ≠ jsz h + 1 → q ≠ jfr h 157 v → same h10 (wfr (wfr (war h10 (jfr h 157 v) cnt (jsz h + 1)) 117 (jsz h + 1) s) 118 (jsz h + 1) nm) q := fun q h1 h2 => ((same_war h2).tr (same_wfr h1)).tr (same_wfr h1)
      have ne : jfr h 157 v ≠ jsz h + 1 := by omega
      refine endR fun _ _ _ => ⟨⟨fun q hq hM => (f q hq (by omega)).tr (sm q (by omega) fun z => hM (Or.inr z)), fun z => absurd z (by omega), ⟨aK10.trans aK.symm, sA.ln, fun F => ⟨sA.fi F, sA.fl F, ?_⟩, fun i => ⟨sA.ai i, sA.al i⟩, fun i hi => ?_⟩, ⟨?_, ?_, ?_⟩, fun F a b hF => ?_⟩, ⟨Nat.succ_ne_zero _, k10, ?_⟩, ?_, ?_, fun _ => ?_, fun z => absurd z (by omega)⟩
      · rw [jfr_wfr, if_neg (fun z => ne z.2), jfr_wfr, if_neg (fun z => ne z.2)]
        exact sA.fr F
      · show jar (war h10 (jfr h 157 v) cnt (jsz h + 1)) (jfr h 157 v) i = _
        rw [jar_war, if_neg (fun z => hi z.2)]
        exact sA.ar i
      · show jsz h ≤ jsz h10
        omega
      · show jsz h10 ≤ _
        omega
      · show jus h10 ≤ _
        omega
      · rw [ef F a (by omega) (by omega), ef F b (by omega) (by omega)]
        exact ow10 F a b hF
      · rw [ef 108 _ (by decide) (by decide)]
        have ck := c10.kd
        refine c10.of (sm _ (fun z => by rw [z] at c98; omega) fun z => by rw [z] at c98; omega) fun z => ?_
        have := (c10.2.2.2.2.resolve_left z).1
        exact sm _ (fun z' => by rw [z'] at this; omega) fun z' => by rw [z'] at this; omega
      · rw [show jfr (wfr (wfr (war h10 (jfr h 157 v) cnt (jsz h + 1)) 117 (jsz h + 1) s) 118 (jsz h + 1) nm) 117 (jsz h + 1) = s from by rw [jfr_wfr, if_neg (by omega), jfr_wfr, if_pos ⟨rfl, rfl⟩]]
        exact t1.of (sm s (by omega) fun z => by rw [z] at tk1; omega) (sm _ (fun z => by rw [z] at tk2; omega) fun z => by rw [z] at tk2; omega)
      · rw [show jfr (wfr (wfr (war h10 (jfr h 157 v) cnt (jsz h + 1)) 117 (jsz h + 1) s) 118 (jsz h + 1) nm) 118 (jsz h + 1) = nm from by rw [jfr_wfr, if_pos ⟨rfl, rfl⟩]]
        exact t2.of (sm nm (by omega) fun z => by rw [z] at uk1; omega) (sm _ (fun z => by rw [z] at uk2; omega) fun z => by rw [z] at uk2; omega)
      · exact ea
  · have c16 : cnt = 16 := (nI_eq (by omega) (by omega)).mp (show nI cnt = nI 16 from ec.symm.trans g)
    rintro r6 h7 rfl rfl
    refine JW.inv fun hI7 => JW.up (n := 3) (fun dd => useV0 (k_colInit (d := dd) (x := s) (y := nm) raw) ?_) (by omega)
    rintro h10 hI10 _ ⟨m, e1, e2, _⟩
    obtain ⟨f, s1, s2, ow10, k10, c10, c98, t1, t2⟩ := mk m hI7
    have sA := f (jfr h 157 v) al (by omega)
    exact endR fun _ _ _ => ⟨⟨f.mono (Nat.le_refl _) fun q _ z => Or.inl z, fun z => absurd z (by omega), ⟨sA.kd, sA.ln, fun F => ⟨sA.fi F, sA.fl F, sA.fr F⟩, fun i => ⟨sA.ai i, sA.al i⟩, fun i _ => sA.ar i⟩, ⟨by omega, by omega, by omega⟩, ow10⟩, ⟨Nat.succ_ne_zero _, k10, c10⟩, by rw [e1]; exact t1, by rw [e2]; exact t2, fun z => absurd z (by omega), fun z => absurd z (by omega)⟩
end
