/-! literals and aggregates are made -/
theorem JInv.k111b {D : JD} {h : JH} (hI : JInv D h) {r : Nat} (hr : jfr h 111 r ≠ 0) : jkd h (jfr h 111 r) ≠ 101 := fun e => by
  have := hI.refP (F := 111) (r := r) (fun k => !(Nat.beq k 101)) (by decide +kernel) hr
  rw [e] at this
  exact absurd this (by decide)
theorem same0 {D : JD} {h h' : JH} (hI : JInv D h) (hI' : JInv D h') : same h h' 0 := by
  obtain ⟨a1, a2, a3, a4⟩ := hI.2.2.2.2.2.1 0 (Nat.zero_le _)
  obtain ⟨b1, b2, b3, b4⟩ := hI'.2.2.2.2.2.1 0 (Nat.zero_le _)
  exact ⟨b1.trans a1.symm, b2.trans a2.symm, fun F => ⟨(b3 F).1.trans (a3 F).1.symm, (b3 F).2.1.trans (a3 F).2.1.symm, (b3 F).2.2.trans (a3 F).2.2.symm⟩, fun i => ⟨(b4 i).1.trans (a4 i).1.symm, (b4 i).2.1.trans (a4 i).2.1.symm, (b4 i).2.2.trans (a4 i).2.2.symm⟩⟩
/-- a cell for the time being, and its characters -/
theorem cel_ne {D : JD} {h h' : JH} {c : Nat} (hI : JInv D h) (hf : CelF h h' c) (hk : jkd h c = 101) {q : Nat} (q0 : q ≠ 0) (ql : q ≤ jsz h) (n1 : jkd h q ≠ 101) (n2 : jkd h q ≠ 144 ∨ q ≠ jfr h 67 c) : same h h' q := by
  refine hf.1 q ql ?_
  rintro (z | z)
  · exact n1 (z ▸ hk)
  · rcases n2 with w | w
    · exact w (by rw [z]; exact hI.ref (F := 67) (by decide +kernel) (z ▸ q0))
    · exact w z
section
variable {D : JD} {p s a base : Nat} {src : Str} {h h' h'' h0 : JH} {σ σ' σ'' : PS} {ρ ρ' ρ'' : Nat → Nat} {n m n' m' : Int} {d c r : Nat}
theorem PsR.cel (k : PsR D p s a base src h σ ρ) (hI : JInv D h) (hf : CelF h h' c) (hk : jkd h c = 101) : PsR D p s a base src h' σ ρ := by
  obtain ⟨q1, q2, q3, q4, q5, q6, q7, q8, q9, q10⟩ := k.kinds hI
  have ne : ∀ q, q ≠ 0 → q ≤ jsz h → jkd h q ≠ 101 → (jkd h q ≠ 144 ∨ q ≠ jfr h 67 c) → same h h' q := fun q a1 a2 a3 a4 => cel_ne hI hf hk a1 a2 a3 a4
  have k0 : ∀ q, jkd h q ≠ 0 → q ≠ 0 := fun q hq e => by have := (hI.1 q hq).1; omega
  have tx := k.2.2.2.1.tx
  have txt : ∀ x, jfr h 67 x ≠ 0 → x ≠ c → same h h' (jfr h 67 x) := fun x x0 xc => ne _ x0 hI.refl (by rw [hI.ref (F := 67) (k := 144) (by decide +kernel) x0]; decide) (Or.inr fun e => xc (tx _ _ e x0))
  have st : ∀ q w, StR h q w → StR h' q w := fun q w z => by
    have hl := z.lt hI
    have z1 := z.2.1
    have z2 := z.2.2.2.2.1
    exact z.of (ne q z.1 hl.1 (by omega) (Or.inl (by omega))) (ne _ z.2.2.2.1 hl.2 (by omega) (Or.inl (by omega)))
  have ow : OW h' := by
    rintro F x y hF e1 e2
    by_cases e : F = 67
    · subst e; exact hf.2.2.1 tx x y e1 e2
    · have h8 := hf.2.2.2.2.2.2.2
      rw [h8 F x (by omega) e, h8 F y (by omega) e] at e1
      rw [h8 F x (by omega) e] at e2
      exact k.2.2.2.1 F x y hF e1 e2
  refine k.of (ne p k.1.2.1 q6 (by omega) (Or.inl (by omega))) (ne s k.s15.2 q7 (by omega) (Or.inl (by omega))) (ne a (k0 a (by omega)) q8 (by omega) (Or.inl (by omega))) (ne _ (k0 _ (by omega)) q9 (by omega) (Or.inl (by omega))) (fun z => txt _ z fun e => by rw [e, hk] at q4; cases q4) st ow ?_
  intro i hi
  have ki := k.2.2.2.2.1 i hi
  have nk := nkd_ex (nat_ (psA σ) i)
  have k2 := ki.2.1
  refine ki.of ⟨ne _ ki.1 (ki.lt hI) (by omega) (Or.inl (by omega)), fun F hF h0 => ?_, fun h0 _ => ne _ h0 hI.refl (hI.k111b h0) (Or.inl (hI.k111 h0).2.2), st⟩
  have ck : jkd h (jfr h F (ρ i)) = 98 ∨ jkd h (jfr h F (ρ i)) = 99 := by
    rcases hF with rfl | rfl
    · exact Or.inl (hI.ref (F := 108) (by decide +kernel) h0)
    · exact Or.inr (hI.ref (F := 115) (by decide +kernel) h0)
  exact ⟨ne _ h0 hI.refl (by omega) (Or.inl (by omega)), fun h1 => txt _ h1 fun e => by rw [e, hk] at ck; omega⟩
theorem PFr.cel (f : PFr h0 h p s) (hI : JInv D h) (hI' : JInv D h') (hf : CelF h h' c) (hk : jkd h c = 101) (hc : jsz h0 < c) (ht : jfr h 67 c = 0 ∨ jsz h0 < jfr h 67 c) (hl0 : jfr h0 90 s ≤ jsz h0) : PFr h0 h' p s := by
  obtain ⟨a1, a2, a3, ⟨a5, a7⟩, a6⟩ := f
  have lt0 : ∀ q, q ≤ jsz h0 → same h h' q := fun q hq => by
    by_cases q0 : q = 0
    · subst q0; exact same0 hI hI'
    · exact hf.1 q (by omega) (by rintro (z | z) <;> omega)
  refine ⟨fun q hq hM => (a1 q hq hM).tr (lt0 q hq), ?_, ?_, ⟨by have := hf.2.2.2.1; omega, fun q => ?_⟩, fun q w z => ?_⟩
  · rw [hf.2.2.2.2.2.2.2 90 s (by decide) (by decide)]; exact a2
  · rw [(lt0 _ hl0).fr]; exact a3
  · rw [hf.2.2.2.2.2.2.2 111 q (by decide) (by decide)]; exact a7 q
  · have z1 := a6 q w z
    have hl := z1.lt hI
    have k1 := z1.2.1
    have k2 := z1.2.2.2.2.1
    exact z1.of (cel_ne hI hf hk z1.1 hl.1 (by omega) (Or.inl (by omega))) (cel_ne hI hf hk z1.2.2.2.1 hl.2 (by omega) (Or.inl (by omega)))
/-- what a literal or an aggregate has become; n, m: what was spent -/
def MkL (h h' : JH) (r : Nat) (n m : Int) : Prop := fr (jsz h) (fun q => q = r) h h' ∧ jsz h ≤ jsz h' ∧ OW h' ∧ Sp h h' n m ∧ jkd h' r = jkd h r
theorem MkL.of (hI : JInv D h) (m : MkN D h h' r) (o : OW h) (hk : 20 ≤ jkd h r ∧ jkd h r ≤ 29) : MkL h h' r 2 45 := ⟨m.1, by have := m.2.1; omega, m.ow hI o, m.sp hk, m.2.2.2.2.2.2.1⟩
theorem PsR.mkL {kk : Nat} (k : PsR D p s a base src h σ ρ) (hI : JInv D h) (w : Raw h r kk) (hk : 20 ≤ kk ∧ kk ≤ 29) (m : MkL h h' r n m') : PsR D p s a base src h' σ ρ :=
  k.fresh hI m.1 (Or.inl ⟨by rw [w.2.2.1]; exact hk.1, by rw [w.2.2.1]; exact hk.2, w.2.2.2⟩) m.2.2.1
theorem PFr.mkL {kk : Nat} (f : PFr h0 h p s) (hI : JInv D h) (hI0 : JInv D h0) (w : Raw h r kk) (hk : 20 ≤ kk ∧ kk ≤ 29) (hr : jsz h0 < r) (hs0 : s ≤ jsz h0) (m : MkL h h' r n m') (h111 : ∀ q, jfr h' 111 q = jfr h 111 q ∨ jsz h0 < jfr h' 111 q) : PFr h0 h' p s := by
  have := w.2.2.1
  exact f.fresh hI hr m.1 m.2.1 hs0 hI0.refl ⟨by omega, by omega, by omega, by omega⟩ hI0 h111
theorem k_litInit {v : Val} (w : Raw h r 25) (hc : Cel D h c v) (hk : jkd h c = 101) (o : OW h) (hd : 10 ≤ d) : cX31_init D d r c h (pV D h (fun h' => MkL h h' r 2 45 ∧ jfr h' 109 r = tyc D v.1 ∧ Cel D h' (jfr h' 108 r) v ∧ ∀ q, jfr h' 111 q = jfr h 111 q) no) := by
  obtain ⟨e, rfl, he⟩ := dsucc hd
  refine JW.inv fun hI => t_X31_init ⟨w.1, JW.up (n := 2) (fun d => useV0 (k_exInit (d := d) w.1) ?_) (by omega)⟩
  rintro h1 hI1 _ rfl
  have m := MkN.ex hI w.2.1 (D := D) (by rw [w.2.2.1]; decide)
  have o1 := m.ow hI o
  have hl := hc.1.lt hI
  have cr : c ≠ r := fun e => by rw [e, w.2.2.1] at hk; cases hk
  have tr : jfr h 67 c ≠ 0 → jfr h 67 c ≠ r := fun h0 e => by
    have := hI.ref (F := 67) (k := 144) (r := c) (by decide +kernel) h0
    rw [e, w.2.2.1] at this; cases this
  have hc1 : Cel D (hEx D h r) c v := hc.of (m.1 c hl.1 cr) fun h0 => m.1 _ hl.2 (tr h0)
  have e8 := m.2.2.2.1
  refine ⟨by rw [e8]; exact Nat.succ_ne_zero _, ?_⟩
  rw [e8]
  have cw1 := m.2.2.2.2.2.1.1
  refine JW.up (n := 9) (fun d => useR0 (k_cCopy (d := d) cw1 hc1 o1.tx) ?_) (by omega)
  rintro v2 h2 hI2 _ ⟨rfl, f1, f2⟩
  have c0 : jsz h + 1 ≠ c := by omega
  have hc2 : Cel D h2 c v := hc1.other hI1 o1.tx f2 (Ne.symm c0) cw1
  have kr1 : jkd (hEx D h r) r = 25 := by rw [m.2.2.2.2.2.2.1, w.2.2.1]
  have z67 := m.2.2.2.2.2.2.2.2.2
  have sz1 := m.2.1
  have ne2 : ∀ q, q ≤ jsz h → same (hEx D h r) h2 q := fun q hq => by
    by_cases q0 : q = 0
    · subst q0; exact same0 hI1 hI2
    · refine f2.1 q (by omega) ?_
      rintro (z | z)
      · omega
      · rw [z67] at z; exact q0 z
  have fr2 : fr (jsz h) (fun q => q = r) h h2 := fun q hq hM => (m.1 q hq hM).tr (ne2 q hq)
  have h8 := f2.2.2.2.2.2.2.2
  have o2 : OW h2 := by
    rintro F x y hF e1 e2
    by_cases e : F = 67
    · subst e; exact f2.2.2.1 o1.tx x y e1 e2
    · rw [h8 F x (by omega) e, h8 F y (by omega) e] at e1
      rw [h8 F x (by omega) e] at e2
      exact o1 F x y hF e1 e2
  have sp2 : Sp h h2 2 45 := ((m.sp (by rw [w.2.2.1]; decide)).tr (f2.sp hI1 hI2 (by rw [m.2.2.2.2.1]; decide) (Nat.succ_ne_zero _) f1.1)).mono (by omega) (by omega)
  have kr2 : jkd h2 r = 25 := by rw [(ne2 r w.2.1).kd, kr1]
  have fin : ∀ t, t = tyc D v.1 → MkL h (wfr h2 109 r t) r 2 45 ∧ jfr (wfr h2 109 r t) 109 r = tyc D v.1 ∧ Cel D (wfr h2 109 r t) (jfr (wfr h2 109 r t) 108 r) v ∧ ∀ q, jfr (wfr h2 109 r t) 111 q = jfr h 111 q := by
    intro t ht
    have e108 : jfr (wfr h2 109 r t) 108 r = jsz h + 1 := by rw [jfr_wfr, if_neg (by simp), h8 108 r (by decide) (by decide), e8]
    refine ⟨⟨fr2.tr (fr_wfr (Or.inl rfl)), by have := f2.2.2.2.1; show jsz h ≤ jsz h2; omega, o2.eq fun F q hF => by rw [jfr_wfr, if_neg fun z => by omega], (sp2.tr (Sp.fr (Or.inl ⟨by decide, by decide⟩))).mono (by omega) (by omega), by show jkd h2 r = _; rw [kr2, w.2.2.1]⟩, by rw [jfr_wfr, if_pos ⟨rfl, rfl⟩]; exact ht, ?_, fun q => ?_⟩
    · rw [e108]
      refine f1.of (same_wfr (by have := w.2.1; omega)) fun h0 => same_wfr fun e => ?_
      rcases f1.1.2.2.2.2 with z | z
      · exact h0 z
      · rw [e, kr2] at z; exact absurd z.1 (by decide)
    · rw [jfr_wfr, if_neg (by simp), h8 111 q (by decide) (by decide)]
      simp only [hEx, jkd_wfi, jln_wfi, jfi_wfi, jfl_wfi, jfr_wfi, jai_wfi, jal_wfi, jar_wfi, jsz_wfi, jus_wfi, jkd_wfl, jln_wfl, jfi_wfl, jfl_wfl, jfr_wfl, jai_wfl, jal_wfl, jar_wfl, jsz_wfl, jus_wfl, jkd_wfr, jln_wfr, jfi_wfr, jfl_wfr, jfr_wfr, jai_wfr, jal_wfr, jar_wfr, jsz_wfr, jus_wfr, jkd_wai, jln_wai, jfi_wai, jfl_wai, jfr_wai, jai_wai, jal_wai, jar_wai, jsz_wai, jus_wai, jkd_wal, jln_wal, jfi_wal, jfl_wal, jfr_wal, jai_wal, jal_wal, jar_wal, jsz_wal, jus_wal, jkd_war, jln_war, jfi_war, jfl_war, jfr_war, jai_war, jal_war, jar_war, jsz_war, jus_war, jkd_nwo, jln_nwo, jfi_nwo, jfl_nwo, jfr_nwo, jai_nwo, jal_nwo, jar_nwo, jsz_nwo, jus_nwo, jkd_nwa, jln_nwa, jfi_nwa, jfl_nwa, jfr_nwa, jai_nwa, jal_nwa, jar_nwa, jsz_nwa, jus_nwa, jkd_cpa, jln_cpa, jfi_cpa, jfl_cpa, jfr_cpa, jai_cpa, jal_cpa, jar_cpa, jsz_cpa, jus_cpa, Nat.reduceEqDiff, false_and, if_false]
  refine ⟨hc2.1.1, JW.up (n := 1) (fun d => useI0 (k_cEmpty (d := d) hc2) ?_) (by omega)⟩
  rintro x h3 _ _ ⟨rfl, rfl⟩
  refine ⟨fun z => ⟨w.1, ?_⟩, fun z => ⟨w.1, ?_⟩⟩
  · rintro h4 rfl
    refine endV fun _ _ => fin _ ?_
    rcases hc2.2 with ⟨y, _⟩ | ⟨_, y, _⟩
    · rw [y] at z; exact absurd z (by decide)
    · exact y
  · rintro h4 rfl
    refine endV fun _ _ => fin _ ?_
    have : v.1 = 0 := by
      by_cases y : v.1 = 0
      · exact y
      · rw [if_neg y] at z; exact absurd rfl z
    rw [this]; rfl
theorem k_aggInit {x y : Nat} {v z : Int32} (w : Raw h r 22) (w5 : jfr h 115 r = 0) (o : OW h) (hz : jbo z) (hd : 5 ≤ d) : cX28_init D d r y x v z h (pV D h (fun h' => MkL h h' r 4 90 ∧ CelW D h' (jfr h' 108 r) ∧ CelW D h' (jfr h' 115 r) ∧ jfr h' 111 r = x ∧ jfi h' 112 r = v ∧ jfr h' 113 r = y ∧ jfi h' 114 r = z ∧ ∀ q, q ≠ r → jfr h' 111 q = jfr h 111 q) no) := by
  obtain ⟨e, rfl, he⟩ := dsucc hd
  refine JW.inv fun hI => t_X28_init ⟨w.1, JW.up (n := 3) (fun d => useV0 (k_manyInit (d := d) w (by decide)) ?_) (by omega)⟩
  rintro h1 hI1 _ ⟨m, e1, e2, e3⟩ r2 h2 rfl rfl
  have sz1 := m.2.1
  have hr := w.2.1
  refine JW.up (n := 1) (fun d => useV0 (k_cInitE (d := d) (Nat.succ_ne_zero _)) ?_) (by omega)
  rintro h3 _ _ rfl h4 rfl h5 rfl
  refine ⟨hz, ?_⟩
  rintro h6 rfl
  have o1 := m.ow hI o
  have kr1 : jkd h1 r = 22 := by rw [m.2.2.2.2.2.2.1, w.2.2.1]
  have rne : r ≠ jsz h1 + 1 := by omega
  have z15 : ∀ q, jfr h1 115 q = jfr h 115 q := fun q => m.2.2.2.2.2.2.2.1 115 q (Or.inr rfl)
  refine endV fun _ _ => ⟨⟨?_, ?_, ?_, ?_, ?_⟩, ?_, ?_, ?_, ?_, ?_, ?_, fun q hq => ?_⟩
  · exact ((((((m.1.tr (fr_nwo (by omega))).tr (fr_wfr (Or.inr (by omega)))).tr (fr_wfi (Or.inr (by omega)))).tr (fr_wfr (Or.inl rfl))).tr (fr_wfr (Or.inl rfl))).tr (fr_wfi (Or.inl rfl)))
  · simp only [jkd_wfi, jln_wfi, jfi_wfi, jfl_wfi, jfr_wfi, jai_wfi, jal_wfi, jar_wfi, jsz_wfi, jus_wfi, jkd_wfl, jln_wfl, jfi_wfl, jfl_wfl, jfr_wfl, jai_wfl, jal_wfl, jar_wfl, jsz_wfl, jus_wfl, jkd_wfr, jln_wfr, jfi_wfr, jfl_wfr, jfr_wfr, jai_wfr, jal_wfr, jar_wfr, jsz_wfr, jus_wfr, jkd_wai, jln_wai, jfi_wai, jfl_wai, jfr_wai, jai_wai, jal_wai, jar_wai, jsz_wai, jus_wai, jkd_wal, jln_wal, jfi_wal, jfl_wal, jfr_wal, jai_wal, jal_wal, jar_wal, jsz_wal, jus_wal, jkd_war, jln_war, jfi_war, jfl_war, jfr_war, jai_war, jal_war, jar_war, jsz_war, jus_war, jkd_nwo, jln_nwo, jfi_nwo, jfl_nwo, jfr_nwo, jai_nwo, jal_nwo, jar_nwo, jsz_nwo, jus_nwo, jkd_nwa, jln_nwa, jfi_nwa, jfl_nwa, jfr_nwa, jai_nwa, jal_nwa, jar_nwa, jsz_nwa, jus_nwa, jkd_cpa, jln_cpa, jfi_cpa, jfl_cpa, jfr_cpa, jai_cpa, jal_cpa, jar_cpa, jsz_cpa, jus_cpa]; omega
  · rintro F a b hF q1 q2
    by_cases e : F = 115
    · subst e
      simp only [jkd_wfi, jln_wfi, jfi_wfi, jfl_wfi, jfr_wfi, jai_wfi, jal_wfi, jar_wfi, jsz_wfi, jus_wfi, jkd_wfl, jln_wfl, jfi_wfl, jfl_wfl, jfr_wfl, jai_wfl, jal_wfl, jar_wfl, jsz_wfl, jus_wfl, jkd_wfr, jln_wfr, jfi_wfr, jfl_wfr, jfr_wfr, jai_wfr, jal_wfr, jar_wfr, jsz_wfr, jus_wfr, jkd_wai, jln_wai, jfi_wai, jfl_wai, jfr_wai, jai_wai, jal_wai, jar_wai, jsz_wai, jus_wai, jkd_wal, jln_wal, jfi_wal, jfl_wal, jfr_wal, jai_wal, jal_wal, jar_wal, jsz_wal, jus_wal, jkd_war, jln_war, jfi_war, jfl_war, jfr_war, jai_war, jal_war, jar_war, jsz_war, jus_war, jkd_nwo, jln_nwo, jfi_nwo, jfl_nwo, jfr_nwo, jai_nwo, jal_nwo, jar_nwo, jsz_nwo, jus_nwo, jkd_nwa, jln_nwa, jfi_nwa, jfl_nwa, jfr_nwa, jai_nwa, jal_nwa, jar_nwa, jsz_nwa, jus_nwa, jkd_cpa, jln_cpa, jfi_cpa, jfl_cpa, jfr_cpa, jai_cpa, jal_cpa, jar_cpa, jsz_cpa, jus_cpa, Nat.reduceEqDiff, false_and, if_false, true_and] at q1 q2
      by_cases ea : a = r
      · by_cases eb : b = r
        · rw [ea, eb]
        · rw [if_pos ea, if_neg eb] at q1
          have := hI1.refl (F := 115) (r := b); omega
      · by_cases eb : b = r
        · rw [if_neg ea, if_pos eb] at q1
          have := hI1.refl (F := 115) (r := a); omega
        · rw [if_neg ea, if_neg eb] at q1
          rw [if_neg ea] at q2
          exact o1 115 a b (by simp) q1 q2
    · have hF' : F = 67 ∨ F = 108 := by omega
      have e7 : ∀ q, jfr (wfi (wfr (wfr (wfi (wfr (nwo h1 99 5) 64 (jsz h1 + 1) (jcs D 345)) 65 (jsz h1 + 1) 1) 115 r (jsz h1 + 1)) 113 r y) 114 r z) F q = jfr h1 F q := fun q => by
        rcases hF' with rfl | rfl <;> simp only [jkd_wfi, jln_wfi, jfi_wfi, jfl_wfi, jfr_wfi, jai_wfi, jal_wfi, jar_wfi, jsz_wfi, jus_wfi, jkd_wfl, jln_wfl, jfi_wfl, jfl_wfl, jfr_wfl, jai_wfl, jal_wfl, jar_wfl, jsz_wfl, jus_wfl, jkd_wfr, jln_wfr, jfi_wfr, jfl_wfr, jfr_wfr, jai_wfr, jal_wfr, jar_wfr, jsz_wfr, jus_wfr, jkd_wai, jln_wai, jfi_wai, jfl_wai, jfr_wai, jai_wai, jal_wai, jar_wai, jsz_wai, jus_wai, jkd_wal, jln_wal, jfi_wal, jfl_wal, jfr_wal, jai_wal, jal_wal, jar_wal, jsz_wal, jus_wal, jkd_war, jln_war, jfi_war, jfl_war, jfr_war, jai_war, jal_war, jar_war, jsz_war, jus_war, jkd_nwo, jln_nwo, jfi_nwo, jfl_nwo, jfr_nwo, jai_nwo, jal_nwo, jar_nwo, jsz_nwo, jus_nwo, jkd_nwa, jln_nwa, jfi_nwa, jfl_nwa, jfr_nwa, jai_nwa, jal_nwa, jar_nwa, jsz_nwa, jus_nwa, jkd_cpa, jln_cpa, jfi_cpa, jfl_cpa, jfr_cpa, jai_cpa, jal_cpa, jar_cpa, jsz_cpa, jus_cpa, Nat.reduceEqDiff, false_and, if_false]
      rw [e7, e7] at q1
      rw [e7] at q2
      exact o1 F a b hF q1 q2
  · exact ((((((m.sp (by rw [w.2.2.1]; decide)).tr Sp.nC).tr (Sp.fr (Or.inl ⟨by decide, by decide⟩))).tr Sp.fi).tr (Sp.fr (Or.inl ⟨by decide, by decide⟩))).tr (Sp.fr (Or.inl ⟨by decide, by decide⟩))).tr Sp.fi |>.mono (by omega) (by omega)
  · simp only [jkd_wfi, jln_wfi, jfi_wfi, jfl_wfi, jfr_wfi, jai_wfi, jal_wfi, jar_wfi, jsz_wfi, jus_wfi, jkd_wfl, jln_wfl, jfi_wfl, jfl_wfl, jfr_wfl, jai_wfl, jal_wfl, jar_wfl, jsz_wfl, jus_wfl, jkd_wfr, jln_wfr, jfi_wfr, jfl_wfr, jfr_wfr, jai_wfr, jal_wfr, jar_wfr, jsz_wfr, jus_wfr, jkd_wai, jln_wai, jfi_wai, jfl_wai, jfr_wai, jai_wai, jal_wai, jar_wai, jsz_wai, jus_wai, jkd_wal, jln_wal, jfi_wal, jfl_wal, jfr_wal, jai_wal, jal_wal, jar_wal, jsz_wal, jus_wal, jkd_war, jln_war, jfi_war, jfl_war, jfr_war, jai_war, jal_war, jar_war, jsz_war, jus_war, jkd_nwo, jln_nwo, jfi_nwo, jfl_nwo, jfr_nwo, jai_nwo, jal_nwo, jar_nwo, jsz_nwo, jus_nwo, jkd_nwa, jln_nwa, jfi_nwa, jfl_nwa, jfr_nwa, jai_nwa, jal_nwa, jar_nwa, jsz_nwa, jus_nwa, jkd_cpa, jln_cpa, jfi_cpa, jfl_cpa, jfr_cpa, jai_cpa, jal_cpa, jar_cpa, jsz_cpa, jus_cpa, rne, if_false]; rw [kr1, w.2.2.1]
  · have c1 := m.2.2.2.2.2.1.1
    have e8 : jfr (wfi (wfr (wfr (wfi (wfr (nwo h1 99 5) 64 (jsz h1 + 1) (jcs D 345)) 65 (jsz h1 + 1) 1) 115 r (jsz h1 + 1)) 113 r y) 114 r z) 108 r = jsz h + 1 := by
      simp only [jkd_wfi, jln_wfi, jfi_wfi, jfl_wfi, jfr_wfi, jai_wfi, jal_wfi, jar_wfi, jsz_wfi, jus_wfi, jkd_wfl, jln_wfl, jfi_wfl, jfl_wfl, jfr_wfl, jai_wfl, jal_wfl, jar_wfl, jsz_wfl, jus_wfl, jkd_wfr, jln_wfr, jfi_wfr, jfl_wfr, jfr_wfr, jai_wfr, jal_wfr, jar_wfr, jsz_wfr, jus_wfr, jkd_wai, jln_wai, jfi_wai, jfl_wai, jfr_wai, jai_wai, jal_wai, jar_wai, jsz_wai, jus_wai, jkd_wal, jln_wal, jfi_wal, jfl_wal, jfr_wal, jai_wal, jal_wal, jar_wal, jsz_wal, jus_wal, jkd_war, jln_war, jfi_war, jfl_war, jfr_war, jai_war, jal_war, jar_war, jsz_war, jus_war, jkd_nwo, jln_nwo, jfi_nwo, jfl_nwo, jfr_nwo, jai_nwo, jal_nwo, jar_nwo, jsz_nwo, jus_nwo, jkd_nwa, jln_nwa, jfi_nwa, jfl_nwa, jfr_nwa, jai_nwa, jal_nwa, jar_nwa, jsz_nwa, jus_nwa, jkd_cpa, jln_cpa, jfi_cpa, jfl_cpa, jfr_cpa, jai_cpa, jal_cpa, jar_cpa, jsz_cpa, jus_cpa, Nat.reduceEqDiff, false_and, if_false]; exact m.2.2.2.1
    rw [e8]
    have n1 : jsz h + 1 ≠ r := by omega
    have n2 : jsz h + 1 ≠ jsz h1 + 1 := by omega
    refine c1.of ?_ fun h0 => absurd m.2.2.2.2.2.2.2.2.2 h0
    exact (((((same_nwo (by omega)).tr (same_wfr n2)).tr (same_wfi n2)).tr (same_wfr n1)).tr (same_wfr n1)).tr (same_wfi n1)
  · have e8 : jfr (wfi (wfr (wfr (wfi (wfr (nwo h1 99 5) 64 (jsz h1 + 1) (jcs D 345)) 65 (jsz h1 + 1) 1) 115 r (jsz h1 + 1)) 113 r y) 114 r z) 115 r = jsz h1 + 1 := by
      simp only [jkd_wfi, jln_wfi, jfi_wfi, jfl_wfi, jfr_wfi, jai_wfi, jal_wfi, jar_wfi, jsz_wfi, jus_wfi, jkd_wfl, jln_wfl, jfi_wfl, jfl_wfl, jfr_wfl, jai_wfl, jal_wfl, jar_wfl, jsz_wfl, jus_wfl, jkd_wfr, jln_wfr, jfi_wfr, jfl_wfr, jfr_wfr, jai_wfr, jal_wfr, jar_wfr, jsz_wfr, jus_wfr, jkd_wai, jln_wai, jfi_wai, jfl_wai, jfr_wai, jai_wai, jal_wai, jar_wai, jsz_wai, jus_wai, jkd_wal, jln_wal, jfi_wal, jfl_wal, jfr_wal, jai_wal, jal_wal, jar_wal, jsz_wal, jus_wal, jkd_war, jln_war, jfi_war, jfl_war, jfr_war, jai_war, jal_war, jar_war, jsz_war, jus_war, jkd_nwo, jln_nwo, jfi_nwo, jfl_nwo, jfr_nwo, jai_nwo, jal_nwo, jar_nwo, jsz_nwo, jus_nwo, jkd_nwa, jln_nwa, jfi_nwa, jfl_nwa, jfr_nwa, jai_nwa, jal_nwa, jar_nwa, jsz_nwa, jus_nwa, jkd_cpa, jln_cpa, jfi_cpa, jfl_cpa, jfr_cpa, jai_cpa, jal_cpa, jar_cpa, jsz_cpa, jus_cpa, Nat.reduceEqDiff, false_and, if_false, and_self, if_true]
    rw [e8]
    refine ⟨Nat.succ_ne_zero _, by simp only [jkd_wfi, jln_wfi, jfi_wfi, jfl_wfi, jfr_wfi, jai_wfi, jal_wfi, jar_wfi, jsz_wfi, jus_wfi, jkd_wfl, jln_wfl, jfi_wfl, jfl_wfl, jfr_wfl, jai_wfl, jal_wfl, jar_wfl, jsz_wfl, jus_wfl, jkd_wfr, jln_wfr, jfi_wfr, jfl_wfr, jfr_wfr, jai_wfr, jal_wfr, jar_wfr, jsz_wfr, jus_wfr, jkd_wai, jln_wai, jfi_wai, jfl_wai, jfr_wai, jai_wai, jal_wai, jar_wai, jsz_wai, jus_wai, jkd_wal, jln_wal, jfi_wal, jfl_wal, jfr_wal, jai_wal, jal_wal, jar_wal, jsz_wal, jus_wal, jkd_war, jln_war, jfi_war, jfl_war, jfr_war, jai_war, jal_war, jar_war, jsz_war, jus_war, jkd_nwo, jln_nwo, jfi_nwo, jfl_nwo, jfr_nwo, jai_nwo, jal_nwo, jar_nwo, jsz_nwo, jus_nwo, jkd_nwa, jln_nwa, jfi_nwa, jfl_nwa, jfr_nwa, jai_nwa, jal_nwa, jar_nwa, jsz_nwa, jus_nwa, jkd_cpa, jln_cpa, jfi_cpa, jfl_cpa, jfr_cpa, jai_cpa, jal_cpa, jar_cpa, jsz_cpa, jus_cpa, if_true]; decide, by simp only [jkd_wfi, jln_wfi, jfi_wfi, jfl_wfi, jfr_wfi, jai_wfi, jal_wfi, jar_wfi, jsz_wfi, jus_wfi, jkd_wfl, jln_wfl, jfi_wfl, jfl_wfl, jfr_wfl, jai_wfl, jal_wfl, jar_wfl, jsz_wfl, jus_wfl, jkd_wfr, jln_wfr, jfi_wfr, jfl_wfr, jfr_wfr, jai_wfr, jal_wfr, jar_wfr, jsz_wfr, jus_wfr, jkd_wai, jln_wai, jfi_wai, jfl_wai, jfr_wai, jai_wai, jal_wai, jar_wai, jsz_wai, jus_wai, jkd_wal, jln_wal, jfi_wal, jfl_wal, jfr_wal, jai_wal, jal_wal, jar_wal, jsz_wal, jus_wal, jkd_war, jln_war, jfi_war, jfl_war, jfr_war, jai_war, jal_war, jar_war, jsz_war, jus_war, jkd_nwo, jln_nwo, jfi_nwo, jfl_nwo, jfr_nwo, jai_nwo, jal_nwo, jar_nwo, jsz_nwo, jus_nwo, jkd_nwa, jln_nwa, jfi_nwa, jfl_nwa, jfr_nwa, jai_nwa, jal_nwa, jar_nwa, jsz_nwa, jus_nwa, jkd_cpa, jln_cpa, jfi_cpa, jfl_cpa, jfr_cpa, jai_cpa, jal_cpa, jar_cpa, jsz_cpa, jus_cpa, if_true]; decide, Or.inr ?_, Or.inl ?_⟩
    · simp only [jkd_wfi, jln_wfi, jfi_wfi, jfl_wfi, jfr_wfi, jai_wfi, jal_wfi, jar_wfi, jsz_wfi, jus_wfi, jkd_wfl, jln_wfl, jfi_wfl, jfl_wfl, jfr_wfl, jai_wfl, jal_wfl, jar_wfl, jsz_wfl, jus_wfl, jkd_wfr, jln_wfr, jfi_wfr, jfl_wfr, jfr_wfr, jai_wfr, jal_wfr, jar_wfr, jsz_wfr, jus_wfr, jkd_wai, jln_wai, jfi_wai, jfl_wai, jfr_wai, jai_wai, jal_wai, jar_wai, jsz_wai, jus_wai, jkd_wal, jln_wal, jfi_wal, jfl_wal, jfr_wal, jai_wal, jal_wal, jar_wal, jsz_wal, jus_wal, jkd_war, jln_war, jfi_war, jfl_war, jfr_war, jai_war, jal_war, jar_war, jsz_war, jus_war, jkd_nwo, jln_nwo, jfi_nwo, jfl_nwo, jfr_nwo, jai_nwo, jal_nwo, jar_nwo, jsz_nwo, jus_nwo, jkd_nwa, jln_nwa, jfi_nwa, jfl_nwa, jfr_nwa, jai_nwa, jal_nwa, jar_nwa, jsz_nwa, jus_nwa, jkd_cpa, jln_cpa, jfi_cpa, jfl_cpa, jfr_cpa, jai_cpa, jal_cpa, jar_cpa, jsz_cpa, jus_cpa, Nat.reduceEqDiff, false_and, if_false, and_self, if_true]
    · simp only [jkd_wfi, jln_wfi, jfi_wfi, jfl_wfi, jfr_wfi, jai_wfi, jal_wfi, jar_wfi, jsz_wfi, jus_wfi, jkd_wfl, jln_wfl, jfi_wfl, jfl_wfl, jfr_wfl, jai_wfl, jal_wfl, jar_wfl, jsz_wfl, jus_wfl, jkd_wfr, jln_wfr, jfi_wfr, jfl_wfr, jfr_wfr, jai_wfr, jal_wfr, jar_wfr, jsz_wfr, jus_wfr, jkd_wai, jln_wai, jfi_wai, jfl_wai, jfr_wai, jai_wai, jal_wai, jar_wai, jsz_wai, jus_wai, jkd_wal, jln_wal, jfi_wal, jfl_wal, jfr_wal, jai_wal, jal_wal, jar_wal, jsz_wal, jus_wal, jkd_war, jln_war, jfi_war, jfl_war, jfr_war, jai_war, jal_war, jar_war, jsz_war, jus_war, jkd_nwo, jln_nwo, jfi_nwo, jfl_nwo, jfr_nwo, jai_nwo, jal_nwo, jar_nwo, jsz_nwo, jus_nwo, jkd_nwa, jln_nwa, jfi_nwa, jfl_nwa, jfr_nwa, jai_nwa, jal_nwa, jar_nwa, jsz_nwa, jus_nwa, jkd_cpa, jln_cpa, jfi_cpa, jfl_cpa, jfr_cpa, jai_cpa, jal_cpa, jar_cpa, jsz_cpa, jus_cpa, Nat.reduceEqDiff, false_and, if_false]; exact hI1.zr (Nat.lt_succ_self _) 67
  · simp only [jkd_wfi, jln_wfi, jfi_wfi, jfl_wfi, jfr_wfi, jai_wfi, jal_wfi, jar_wfi, jsz_wfi, jus_wfi, jkd_wfl, jln_wfl, jfi_wfl, jfl_wfl, jfr_wfl, jai_wfl, jal_wfl, jar_wfl, jsz_wfl, jus_wfl, jkd_wfr, jln_wfr, jfi_wfr, jfl_wfr, jfr_wfr, jai_wfr, jal_wfr, jar_wfr, jsz_wfr, jus_wfr, jkd_wai, jln_wai, jfi_wai, jfl_wai, jfr_wai, jai_wai, jal_wai, jar_wai, jsz_wai, jus_wai, jkd_wal, jln_wal, jfi_wal, jfl_wal, jfr_wal, jai_wal, jal_wal, jar_wal, jsz_wal, jus_wal, jkd_war, jln_war, jfi_war, jfl_war, jfr_war, jai_war, jal_war, jar_war, jsz_war, jus_war, jkd_nwo, jln_nwo, jfi_nwo, jfl_nwo, jfr_nwo, jai_nwo, jal_nwo, jar_nwo, jsz_nwo, jus_nwo, jkd_nwa, jln_nwa, jfi_nwa, jfl_nwa, jfr_nwa, jai_nwa, jal_nwa, jar_nwa, jsz_nwa, jus_nwa, jkd_cpa, jln_cpa, jfi_cpa, jfl_cpa, jfr_cpa, jai_cpa, jal_cpa, jar_cpa, jsz_cpa, jus_cpa, Nat.reduceEqDiff, false_and, if_false]; exact e1
  · simp only [jkd_wfi, jln_wfi, jfi_wfi, jfl_wfi, jfr_wfi, jai_wfi, jal_wfi, jar_wfi, jsz_wfi, jus_wfi, jkd_wfl, jln_wfl, jfi_wfl, jfl_wfl, jfr_wfl, jai_wfl, jal_wfl, jar_wfl, jsz_wfl, jus_wfl, jkd_wfr, jln_wfr, jfi_wfr, jfl_wfr, jfr_wfr, jai_wfr, jal_wfr, jar_wfr, jsz_wfr, jus_wfr, jkd_wai, jln_wai, jfi_wai, jfl_wai, jfr_wai, jai_wai, jal_wai, jar_wai, jsz_wai, jus_wai, jkd_wal, jln_wal, jfi_wal, jfl_wal, jfr_wal, jai_wal, jal_wal, jar_wal, jsz_wal, jus_wal, jkd_war, jln_war, jfi_war, jfl_war, jfr_war, jai_war, jal_war, jar_war, jsz_war, jus_war, jkd_nwo, jln_nwo, jfi_nwo, jfl_nwo, jfr_nwo, jai_nwo, jal_nwo, jar_nwo, jsz_nwo, jus_nwo, jkd_nwa, jln_nwa, jfi_nwa, jfl_nwa, jfr_nwa, jai_nwa, jal_nwa, jar_nwa, jsz_nwa, jus_nwa, jkd_cpa, jln_cpa, jfi_cpa, jfl_cpa, jfr_cpa, jai_cpa, jal_cpa, jar_cpa, jsz_cpa, jus_cpa, Nat.reduceEqDiff, false_and, if_false]; exact e2
  · simp only [jkd_wfi, jln_wfi, jfi_wfi, jfl_wfi, jfr_wfi, jai_wfi, jal_wfi, jar_wfi, jsz_wfi, jus_wfi, jkd_wfl, jln_wfl, jfi_wfl, jfl_wfl, jfr_wfl, jai_wfl, jal_wfl, jar_wfl, jsz_wfl, jus_wfl, jkd_wfr, jln_wfr, jfi_wfr, jfl_wfr, jfr_wfr, jai_wfr, jal_wfr, jar_wfr, jsz_wfr, jus_wfr, jkd_wai, jln_wai, jfi_wai, jfl_wai, jfr_wai, jai_wai, jal_wai, jar_wai, jsz_wai, jus_wai, jkd_wal, jln_wal, jfi_wal, jfl_wal, jfr_wal, jai_wal, jal_wal, jar_wal, jsz_wal, jus_wal, jkd_war, jln_war, jfi_war, jfl_war, jfr_war, jai_war, jal_war, jar_war, jsz_war, jus_war, jkd_nwo, jln_nwo, jfi_nwo, jfl_nwo, jfr_nwo, jai_nwo, jal_nwo, jar_nwo, jsz_nwo, jus_nwo, jkd_nwa, jln_nwa, jfi_nwa, jfl_nwa, jfr_nwa, jai_nwa, jal_nwa, jar_nwa, jsz_nwa, jus_nwa, jkd_cpa, jln_cpa, jfi_cpa, jfl_cpa, jfr_cpa, jai_cpa, jal_cpa, jar_cpa, jsz_cpa, jus_cpa, and_self, if_true]
  · simp only [jkd_wfi, jln_wfi, jfi_wfi, jfl_wfi, jfr_wfi, jai_wfi, jal_wfi, jar_wfi, jsz_wfi, jus_wfi, jkd_wfl, jln_wfl, jfi_wfl, jfl_wfl, jfr_wfl, jai_wfl, jal_wfl, jar_wfl, jsz_wfl, jus_wfl, jkd_wfr, jln_wfr, jfi_wfr, jfl_wfr, jfr_wfr, jai_wfr, jal_wfr, jar_wfr, jsz_wfr, jus_wfr, jkd_wai, jln_wai, jfi_wai, jfl_wai, jfr_wai, jai_wai, jal_wai, jar_wai, jsz_wai, jus_wai, jkd_wal, jln_wal, jfi_wal, jfl_wal, jfr_wal, jai_wal, jal_wal, jar_wal, jsz_wal, jus_wal, jkd_war, jln_war, jfi_war, jfl_war, jfr_war, jai_war, jal_war, jar_war, jsz_war, jus_war, jkd_nwo, jln_nwo, jfi_nwo, jfl_nwo, jfr_nwo, jai_nwo, jal_nwo, jar_nwo, jsz_nwo, jus_nwo, jkd_nwa, jln_nwa, jfi_nwa, jfl_nwa, jfr_nwa, jai_nwa, jal_nwa, jar_nwa, jsz_nwa, jus_nwa, jkd_cpa, jln_cpa, jfi_cpa, jfl_cpa, jfr_cpa, jai_cpa, jal_cpa, jar_cpa, jsz_cpa, jus_cpa, and_self, if_true]
  · simp only [jkd_wfi, jln_wfi, jfi_wfi, jfl_wfi, jfr_wfi, jai_wfi, jal_wfi, jar_wfi, jsz_wfi, jus_wfi, jkd_wfl, jln_wfl, jfi_wfl, jfl_wfl, jfr_wfl, jai_wfl, jal_wfl, jar_wfl, jsz_wfl, jus_wfl, jkd_wfr, jln_wfr, jfi_wfr, jfl_wfr, jfr_wfr, jai_wfr, jal_wfr, jar_wfr, jsz_wfr, jus_wfr, jkd_wai, jln_wai, jfi_wai, jfl_wai, jfr_wai, jai_wai, jal_wai, jar_wai, jsz_wai, jus_wai, jkd_wal, jln_wal, jfi_wal, jfl_wal, jfr_wal, jai_wal, jal_wal, jar_wal, jsz_wal, jus_wal, jkd_war, jln_war, jfi_war, jfl_war, jfr_war, jai_war, jal_war, jar_war, jsz_war, jus_war, jkd_nwo, jln_nwo, jfi_nwo, jfl_nwo, jfr_nwo, jai_nwo, jal_nwo, jar_nwo, jsz_nwo, jus_nwo, jkd_nwa, jln_nwa, jfi_nwa, jfl_nwa, jfr_nwa, jai_nwa, jal_nwa, jar_nwa, jsz_nwa, jus_nwa, jkd_cpa, jln_cpa, jfi_cpa, jfl_cpa, jfr_cpa, jai_cpa, jal_cpa, jar_cpa, jsz_cpa, jus_cpa, Nat.reduceEqDiff, false_and, if_false]; exact e3 q hq
end
