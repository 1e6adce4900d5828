/-! the component: rows of cells to work with -/
section
variable {D : JD} {h h' h'' h0 h1 h2 : JH} {d ka kc nn RA k j q c t u r len n RA' len' n' : Nat}
/-- an array of rows of n cells, each made when it is first used -/
def WrkW (D : JD) (h : JH) (RA len n : Nat) : Prop := (RA ≠ 0 ∧ (jkd h RA = 133 ∨ jkd h RA = 134 ∨ jkd h RA = 135)) ∧ jln h RA = len ∧ ∀ k, k < len → jar h RA k = 0 ∨ RowK D 223 97 n h (jar h RA k)
def WaS (h h' : JH) (RA len n : Nat) : Prop := same h h' RA ∧ ∀ k, k < len → jar h RA k ≠ 0 → same h h' (jar h RA k) ∧ ∀ j, j < n → same h h' (jar h (jar h RA k) j) ∧ (jfr h 67 (jar h (jar h RA k) j) ≠ 0 → same h h' (jfr h 67 (jar h (jar h RA k) j)))
theorem WaS.tr (a : WaS h h' RA len n) (b : WaS h' h'' RA len n) : WaS h h'' RA len n := by
  obtain ⟨a1, a3⟩ := a
  obtain ⟨b1, b3⟩ := b
  refine ⟨a1.tr b1, fun k k1 k2 => ?_⟩
  obtain ⟨c1, c2⟩ := a3 k k1 k2
  have e := b3 k k1 (by rw [a1.ar]; exact k2)
  rw [a1.ar] at e
  obtain ⟨e1, e2⟩ := e
  refine ⟨c1.tr e1, fun j hj => ?_⟩
  obtain ⟨f1, f2⟩ := c2 j hj
  have g := e2 j hj
  rw [c1.ar, f1.fr] at g
  exact ⟨f1.tr g.1, fun z => (f2 z).tr (g.2 z)⟩
theorem WrkW.of (k : WrkW D h RA len n) (s : WaS h h' RA len n) : WrkW D h' RA len n := by
  obtain ⟨⟨k1, k2⟩, k4, k5⟩ := k
  obtain ⟨s1, s3⟩ := s
  refine ⟨⟨k1, by rw [s1.kd]; exact k2⟩, by rw [s1.ln]; exact k4, fun k hk => ?_⟩
  rw [s1.ar]
  by_cases z : jar h RA k = 0
  · exact Or.inl z
  · obtain ⟨t1, t2⟩ := s3 k hk z
    exact Or.inr (((k5 k hk).resolve_left z).of t1 t2)
def wK (k : Nat) : Bool := Nat.beq k 133 || (Nat.beq k 134 || (Nat.beq k 135 || (Nat.beq k 223 || Nat.beq k 97)))
theorem wK_true {k : Nat} (e : k = 133 ∨ k = 134 ∨ k = 135) : wK k = true := by rcases e with e | e | e <;> rw [e] <;> rfl
/-- only the rows of RA have changed -/
def WF (D : JD) (RA len n : Nat) (h h' : JH) : Prop :=
  KF wK h h' ∧ (∀ RA' len' n', RA' ≠ RA → WrkW D h RA' len' n' → WaS h h' RA' len' n') ∧ (OT h → OT h') ∧ (WrkW D h RA len n → WrkW D h' RA len n) ∧ Sp h h' ((1 + 2 * n) * ((nz h RA len : Int) - nz h' RA len)) (46 * n * ((nz h RA len : Int) - nz h' RA len))
theorem WF.rf : WF D RA len n h h := ⟨KF.rf, fun _ _ _ _ _ => ⟨same.rf _ _, fun _ _ _ => ⟨same.rf _ _, fun _ _ => ⟨same.rf _ _, fun _ => same.rf _ _⟩⟩⟩, id, id, (Sp.rf _).mono (by rw [Int.sub_self, Int.mul_zero]; omega) (by rw [Int.sub_self, Int.mul_zero]; omega)⟩
theorem WF.tr (a : WF D RA len n h h') (b : WF D RA len n h' h'') : WF D RA len n h h'' := by
  obtain ⟨a1, a2, a3, a4, a5⟩ := a
  obtain ⟨b1, b2, b3, b4, b5⟩ := b
  refine ⟨a1.tr b1, fun u l m hu k => (a2 u l m hu k).tr (b2 u l m hu (k.of (a2 u l m hu k))), fun o => b3 (a3 o), fun k => b4 (a4 k), (a5.tr b5).mono ?_ ?_⟩
  · rw [← Int.mul_add]
    exact Int.le_of_eq (congrArg _ (by omega))
  · rw [← Int.mul_add]
    exact Int.le_of_eq (congrArg _ (by omega))
/-- tables stay -/
theorem KF.tbs {K : Nat → Bool} (a : KF K h h') (hI : JInv D h) (k1 : K 5 = false ∧ K 140 = false ∧ K 224 = false ∧ K 96 = false ∧ K 144 = false) (uw : TabW D h u) : TbS h h' u := by
  have k140 := hI.k140 u uw.2.1.1
  refine ⟨a.obj hI (by rw [uw.1.2]; decide) (by rw [uw.1.2]; decide) (by rw [uw.1.2]; exact k1.1), a.obj hI (by rw [k140]; decide) (by rw [k140]; decide) (by rw [k140]; exact k1.2.1), fun k' hk' hr' => ?_⟩
  have ru := (uw.2.2 k' hk').resolve_left hr'
  refine ⟨a.obj hI (by rw [ru.2.1]; decide) (by rw [ru.2.1]; decide) (by rw [ru.2.1]; exact k1.2.2.1), fun j' hj' => ?_⟩
  have cu := ru.2.2.2 j' hj'
  exact a.cel0 hI cu.1 (by rw [cu.2]; exact k1.2.2.2.1) k1.2.2.2.2
/-- a cell of a work row is written -/
theorem WF.cel (hI : JInv D h) (hI' : JInv D h') (hle : jle h h') (ow : OW h) (ot : OT h) (tw : WrkW D h RA len n) (hk : k < len) (hj : j < n) (hr : jar h RA k ≠ 0) (hf : CelF h h' (jar h (jar h RA k) j)) (hw : CelW D h' (jar h (jar h RA k) j)) : WF D RA len n h h' ∧ (∀ q, q ≤ jsz h → jkd h q ≠ 0 → jkd h q ≠ 97 → jkd h q ≠ 144 → same h h' q) := by
  have rw' := (tw.2.2 k hk).resolve_left hr
  have cw := (rw'.2.2.2 j hj).1
  have ck := (rw'.2.2.2 j hj).2
  have efr : ∀ F q, F ≠ 64 → F ≠ 67 → jfr h' F q = jfr h F q := hf.2.2.2.2.2.2.2
  have kA := tw.1.2
  have kf : KF wK h h' := hf.kf hI hle cw ow (by rw [ck]; rfl)
  have sm : ∀ q, q ≤ jsz h → jkd h q ≠ 0 → jkd h q ≠ 97 → jkd h q ≠ 144 → same h h' q := fun q q1 q2 q3 q4 => hf.1 q q1 (by
    rintro (z | z)
    · rw [z] at q3; exact q3 ck
    · rcases cw.2.2.2.2 with w | w
      · have := (hI.1 q q2).1
        omega
      · rw [← z] at w; exact q4 w.1)
  have sr : same h h' RA := sm _ (hI.lt (by omega)) (by omega) (by omega) (by omega)
  have ar : ∀ a i, okd (jkd h' a) = true → jar h' a i ≠ 0 → okd (jkd h a) = true ∧ jar h' a i = jar h a i := fun a i ha hn => by
    by_cases z : jkd h a = 0
    · have := hI'.lt (fun e => by rw [e] at ha; cases ha)
      have n1 : jsz h < a := by
        by_cases g : jsz h < a
        · exact g
        · exfalso
          have ha' := okd_cases ha
          by_cases q : a = jar h (jar h RA k) j ∨ a = jfr h 67 (jar h (jar h RA k) j)
          · rcases q with q | q
            · rw [q, ck] at z; omega
            · rcases cw.2.2.2.2 with w | w
              · rw [w] at q
                rw [q] at ha'
                have : jkd h' 0 = 0 := by
                  by_cases z0 : jkd h' 0 = 0
                  · exact z0
                  · have := (hI'.1 0 z0).1; omega
                omega
              · rw [← q, z] at w; omega
          · have := (hf.1 a (by omega) q).kd
            omega
      rcases hf.2.1 with e | e
      · have := hf.2.2.2.2.1
        unfold pc67 at this
        rw [e] at this
        omega
      · exfalso
        have h5 := hf.2.2.2.2.1
        unfold pc67 at h5
        have : jfr h' 67 (jar h (jar h RA k) j) ≤ jsz h' := hI'.refl
        have ea : a = jfr h' 67 (jar h (jar h RA k) j) := by
          split at h5 <;> split at h5 <;> omega
        have w := hw.2.2.2.2.resolve_left (by omega)
        rw [← ea] at w
        rw [w.1] at ha
        cases ha
    · have kd := hle.2.2 a z
      rw [kd] at ha
      have hc := okd_cases ha
      exact ⟨ha, (sm a (hI.lt z) z (by omega) (by omega)).ar i⟩
  refine ⟨⟨kf, fun u l m hu uw => ?_, fun _ => ⟨fun a b i i' ha hb e hn => ?_, fun a b => by rw [efr 45 a (by decide) (by decide), efr 45 b (by decide) (by decide)]; exact ot.2 a b⟩, fun _ => ?_, ?_⟩, sm⟩
  · have kU := uw.1.2
    refine ⟨sm u (hI.lt (by omega)) (by omega) (by omega) (by omega), fun k' hk' hr' => ?_⟩
    have ru := (uw.2.2 k' hk').resolve_left hr'
    refine ⟨sm _ hI.arl (by rw [ru.2.1]; decide) (by rw [ru.2.1]; decide) (by rw [ru.2.1]; decide), fun j' hj' => ?_⟩
    have cu := (ru.2.2.2 j' hj').1
    refine cu.oth hI ow.tx hf (fun e => ?_) cw
    have e1 := (ot.1 _ _ _ _ (by rw [ru.2.1]; rfl) (by rw [rw'.2.1]; rfl) e cu.1).1
    have e2 := (ot.1 _ _ _ _ (by rcases kU with g | g | g <;> rw [g] <;> rfl) (by rcases kA with g | g | g <;> rw [g] <;> rfl) e1 hr').1
    exact hu e2
  · have ka := ar a i ha hn
    have kb := ar b i' hb (by rw [← e]; exact hn)
    exact ot.1 a b i i' ka.1 kb.1 (by rw [← ka.2, ← kb.2]; exact e) (by rw [← ka.2]; exact hn)
  · refine ⟨⟨tw.1.1, by rw [sr.kd]; exact tw.1.2⟩, by rw [sr.ln]; exact tw.2.1, fun k' hk' => ?_⟩
    rw [sr.ar]
    by_cases z : jar h RA k' = 0
    · exact Or.inl z
    · have ru := (tw.2.2 k' hk').resolve_left z
      refine Or.inr ?_
      have sx := sm _ (hI.arl (a := RA) (i := k')) (by rw [ru.2.1]; decide) (by rw [ru.2.1]; decide) (by rw [ru.2.1]; decide)
      refine ⟨ru.1, by rw [sx.kd]; exact ru.2.1, by rw [sx.ln]; exact ru.2.2.1, fun j' hj' => ?_⟩
      rw [sx.ar]
      have cu := ru.2.2.2 j' hj'
      by_cases e : jar h (jar h RA k') j' = jar h (jar h RA k) j
      · rw [e, hf.2.2.2.2.2.2.1]
        exact ⟨hw, ck⟩
      · obtain ⟨o1, o2⟩ := cu.1.oth hI ow.tx hf e cw
        exact ⟨cu.1.of o1 o2, by rw [o1.kd]; exact cu.2⟩
  · have e : nz h' RA len = nz h RA len := nz_same fun i _ => sr.ar i
    rw [e, Int.sub_self, Int.mul_zero, Int.mul_zero]
    exact hf.sp hI hI' (by rw [ck]; rfl) cw.1 hw
theorem w_cellL {Q : JO → JH → Prop} (hI : JInv D h) (tw : WrkW D h RA len n) (hk : k < len) (ll : len ≤ 301) (hn : n ≤ 24) (hd : 1 ≤ d) (hQ : ∀ h1, RwI 223 97 n h RA k n h1 → Q (.inl (some (vR 76 (jsz h + 1)))) h1) :
    ∀ (m j : Nat) (h1 : JH), j + m = n → RwI 223 97 n h RA k j h1 → L_X3_cells_15 D d Q (m + 1) RA (nI k) (nI n) (nI j) h1
  | m, j, h1, hjm, R => by
    have jn : jin (nI k) (jln h1 RA) := by rw [R.2.2.1.2, tw.2.1]; exact jin_nI hk (by omega)
    have ix : ixn (nI k) = k := ixn_nI (by omega)
    have er : jar h1 RA k = jsz h + 1 := by rw [R.2.2.2.1, if_pos rfl]
    refine ⟨fun y => ⟨tw.1.1, jn, ?_⟩, fun y => ⟨tw.1.1, jn, ?_⟩⟩
    · have y := (nI_leI (by omega) (by omega)).mp y
      have : j = n := by omega
      subst this
      rw [ix, er]
      exact hQ h1 R
    · have jl : j < n := Nat.lt_of_not_le fun z => y ((nI_leI (by omega) (by omega)).mpr z)
      obtain ⟨m', rfl⟩ : ∃ m', m = m' + 1 := ⟨m - 1, by omega⟩
      rw [ix, er]
      rintro c h2 rfl rfl
      refine JW.up (n := 1) (fun y => useV0 (k_cInit' (d := y) (by omega)) ?_) hd
      rintro h3 hI3 _ rfl
      have ln : jln (wfi (wfr (nwo h1 97 5) 64 (jsz h1 + 1) (jcs D 345)) 65 (jsz h1 + 1) 1) (jsz h + 1) = n := R.2.2.2.2.1.2
      refine ⟨by omega, by rw [ln]; exact jin_nI jl (by omega), ?_⟩
      rintro h4 rfl
      rw [nI_1, ixn_nI (by omega)]
      exact w_cellL hI tw hk ll hn hd hQ m' (j + 1) _ (by omega) (R.step hI (hI.lt (by have := tw.1.2; omega)))
/-- the row k, made if need be -/
theorem w_cells (tw : WrkW D h RA len n) (ot : OT h) (ow : OW h) (hk : k < len) (ll : len ≤ 301) (hn : n ≤ 24) (hd : 2 ≤ d) : cX3_cells D d RA (nI k) (nI n) h (pR D h 76 (fun v h' => v = jar h' RA k ∧ v ≠ 0 ∧ WF D RA len n h h' ∧ RaF RA k h h') no) := by
  obtain ⟨e, rfl, he⟩ := dsucc hd
  have ix : ixn (nI k) = k := ixn_nI (by omega)
  have jn : jin (nI k) (jln h RA) := by rw [tw.2.1]; exact jin_nI hk (by omega)
  have kA := tw.1.2
  refine JW.inv fun hI => t_X3_cells ⟨tw.1.1, jn, ?_⟩
  rw [ix]
  refine ⟨fun z => ⟨tw.1.1, jn, ?_⟩, fun hz => ⟨jsm_nI (by omega), ?_⟩⟩
  · rw [ix]
    exact endR fun _ _ _ => ⟨rfl, z, WF.rf, RaF.rf⟩
  · rintro r1 h1 rfl rfl
    rw [ixn_nI (by omega : n < 2 ^ 31)]
    have RAl : RA ≤ jsz h := hI.lt (by omega)
    have okA : okd (jkd h RA) = true := by rcases kA with g | g | g <;> rw [g] <;> rfl
    refine ⟨by rw [jln_nwa, if_neg (by omega)]; exact jn, ?_⟩
    rintro h2 rfl
    refine ⟨n + 1, w_cellL hI tw hk ll hn (by omega) ?_ n 0 _ (by omega) (RwI.start (D := D) hI (by decide) RAl)⟩
    intro h3 R
    refine endR fun hI3 hle _ => ?_
    have er : jar h3 RA k = jsz h + 1 := by rw [R.2.2.2.1, if_pos rfl]
    have raf := R.raf hz
    have nk : ∀ q, q ≤ jsz h → jkd h q ≠ 133 ∧ jkd h q ≠ 134 ∧ jkd h q ≠ 135 → same h h3 q := fun q q1 q2 => raf.1 q q1 fun z => by rw [z] at q2; omega
    refine ⟨er.symm, by omega, ⟨⟨fun q q1 q2 q3 _ => raf.1 q q1 fun z => ?_, by have := R.1; omega, R.2.2.2.2.2.2.2.2.2, R.ow⟩, fun u l m hu uw => ?_, fun o => R.ot hI RAl o rfl okA (by decide) hI3, fun _ => ?_, ?_⟩, raf⟩
    · rw [z, wK_true kA] at q3; cases q3
    · have kU := uw.1.2
      refine ⟨raf.1 _ (hI.lt (by omega)) hu, fun k' hk' hr' => ?_⟩
      have ru := (uw.2.2 k' hk').resolve_left hr'
      refine ⟨nk _ hI.arl (by rw [ru.2.1]; decide), fun j' hj' => ?_⟩
      have cu := ru.2.2.2 j' hj'
      exact ⟨nk _ hI.arl (by rw [cu.2]; decide), fun z => nk _ hI.refl (by rw [(cu.1.2.2.2.2.resolve_left z).1]; decide)⟩
    · refine ⟨⟨tw.1.1, by rw [R.2.2.1.1]; exact tw.1.2⟩, by rw [R.2.2.1.2]; exact tw.2.1, fun k' hk' => ?_⟩
      by_cases z : k' = k
      · rw [z, er]
        exact Or.inr (R.row hI ⟨by decide, by decide⟩)
      · rw [raf.2 k' (Or.inl z)]
        by_cases y : jar h RA k' = 0
        · exact Or.inl y
        · have ru := (tw.2.2 k' hk').resolve_left y
          refine Or.inr (ru.of (nk _ hI.arl (by rw [ru.2.1]; decide)) fun j' hj' => ?_)
          have cu := ru.2.2.2 j' hj'
          exact ⟨nk _ hI.arl (by rw [cu.2]; decide), fun z => nk _ hI.refl (by rw [(cu.1.2.2.2.2.resolve_left z).1]; decide)⟩
    · have e1 := nz_put (h := h) (h' := h3) (q := RA) (v := jsz h + 1) hk hz (by omega) fun i _ => R.2.2.2.1 i
      have : ((nz h RA len : Int) - nz h3 RA len) = 1 := by omega
      rw [this, Int.mul_one, Int.mul_one]
      exact R.2.2.2.2.2.2.2.2.1.mono (by omega) (by omega)
end
