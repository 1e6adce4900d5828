/-! the component: tables -/
section
variable {D : JD} {h h' h'' h0 h1 h2 : JH} {d ka kc nn RA k j q c t u r : Nat}
/-- a row of n cells of the kind kc -/
def RowK (D : JD) (ka kc nn : Nat) (h : JH) (ra : Nat) : Prop := ra ≠ 0 ∧ jkd h ra = ka ∧ jln h ra = nn ∧ ∀ j, j < nn → CelW D h (jar h ra j) ∧ jkd h (jar h ra j) = kc
def RowW (D : JD) (h : JH) (ra : Nat) : Prop := RowK D 224 96 10 h ra
def TabW (D : JD) (h : JH) (t : Nat) : Prop := (t ≠ 0 ∧ jkd h t = 5) ∧ (jfr h 45 t ≠ 0 ∧ jln h (jfr h 45 t) = 100) ∧ ∀ k, k < 100 → jar h (jfr h 45 t) k = 0 ∨ RowW D h (jar h (jfr h 45 t) k)
/-- the table u is as it was -/
def TbS (h h' : JH) (u : Nat) : Prop := same h h' u ∧ same h h' (jfr h 45 u) ∧ ∀ k, k < 100 → jar h (jfr h 45 u) k ≠ 0 → same h h' (jar h (jfr h 45 u) k) ∧ ∀ j, j < 10 → same h h' (jar h (jar h (jfr h 45 u) k) j) ∧ (jfr h 67 (jar h (jar h (jfr h 45 u) k) j) ≠ 0 → same h h' (jfr h 67 (jar h (jar h (jfr h 45 u) k) j)))
theorem TbS.rf : TbS h h u := ⟨same.rf _ _, same.rf _ _, fun _ _ _ => ⟨same.rf _ _, fun _ _ => ⟨same.rf _ _, fun _ => same.rf _ _⟩⟩⟩
theorem TbS.tr (a : TbS h h' u) (b : TbS h' h'' u) : TbS h h'' u := by
  obtain ⟨a1, a2, a3⟩ := a
  obtain ⟨b1, b2, b3⟩ := b
  rw [a1.fr] at b2 b3
  refine ⟨a1.tr b1, a2.tr b2, fun k k1 k2 => ?_⟩
  obtain ⟨c1, c2⟩ := a3 k k1 k2
  have e := b3 k k1 (by rw [a2.ar]; exact k2)
  rw [a2.ar] at e
  obtain ⟨e1, e2⟩ := e
  refine ⟨c1.tr e1, fun j hj => ?_⟩
  obtain ⟨f1, f2⟩ := c2 j hj
  have g := e2 j hj
  rw [c1.ar, f1.fr] at g
  exact ⟨f1.tr g.1, fun z => (f2 z).tr (g.2 z)⟩
theorem RowK.of {ra : Nat} (k : RowK D ka kc nn h ra) (s1 : same h h' ra) (s2 : ∀ j, j < nn → same h h' (jar h ra j) ∧ (jfr h 67 (jar h ra j) ≠ 0 → same h h' (jfr h 67 (jar h ra j)))) : RowK D ka kc nn h' ra := by
  obtain ⟨k1, k2, k3, k4⟩ := k
  refine ⟨k1, by rw [s1.kd]; exact k2, by rw [s1.ln]; exact k3, fun j hj => ?_⟩
  rw [s1.ar, (s2 j hj).1.kd]
  exact ⟨(k4 j hj).1.of (s2 j hj).1 (s2 j hj).2, (k4 j hj).2⟩
theorem TabW.of (k : TabW D h u) (s : TbS h h' u) : TabW D h' u := by
  obtain ⟨⟨k1, k2⟩, ⟨k3, k4⟩, k5⟩ := k
  obtain ⟨s1, s2, s3⟩ := s
  refine ⟨⟨k1, by rw [s1.kd]; exact k2⟩, by rw [s1.fr, s2.ln]; exact ⟨k3, k4⟩, fun k hk => ?_⟩
  rw [s1.fr, s2.ar]
  by_cases z : jar h (jfr h 45 u) k = 0
  · exact Or.inl z
  · obtain ⟨t1, t2⟩ := s3 k hk z
    exact Or.inr (((k5 k hk).resolve_left z).of t1 t2)
/-- how many rows are still to be made -/
def nz (h : JH) (RA n : Nat) : Nat := ((List.range n).filter fun k => decide (jar h RA k = 0)).length
theorem nz_same (e : ∀ k, k < nn → jar h' q k = jar h q k) : nz h' q nn = nz h q nn := by
  unfold nz
  rw [List.filter_congr fun k hk => by rw [e k (List.mem_range.mp hk)]]
theorem nz_put {v : Nat} (hk : k < nn) (h0 : jar h q k = 0) (hv : v ≠ 0) (e : ∀ i, i < nn → jar h' q i = if i = k then v else jar h q i) : nz h' q nn + 1 = nz h q nn := by
  unfold nz
  have key : ∀ (l : List Nat), l.Nodup → (∀ i ∈ l, i < nn) → (l.filter fun i => decide (jar h' q i = 0)).length + (if k ∈ l then 1 else 0) = (l.filter fun i => decide (jar h q i = 0)).length := by
    intro l
    induction l with
    | nil => intro _ _; simp
    | cons a l ih =>
      intro hn hl
      have hn := List.nodup_cons.mp hn
      have ih := ih hn.2 fun i hi => hl i (List.mem_cons_of_mem _ hi)
      have ea := e a (hl a List.mem_cons_self)
      rw [List.filter_cons, List.filter_cons]
      by_cases ak : a = k
      · subst ak
        rw [if_pos rfl] at ea
        rw [if_neg hn.1] at ih
        rw [if_pos List.mem_cons_self, ea, h0, if_neg (by simpa using hv), if_pos (by simp), List.length_cons]
        omega
      · rw [if_neg ak] at ea
        rw [ea]
        have em : (k ∈ a :: l) ↔ k ∈ l := by
          rw [List.mem_cons]
          exact ⟨fun z => z.resolve_left fun y => ak y.symm, Or.inr⟩
        have ei : (if k ∈ a :: l then 1 else 0) = (if k ∈ l then 1 else 0) := by simp only [em]
        rw [ei]
        split
        · rw [List.length_cons, List.length_cons]; omega
        · exact ih
  have := key (List.range nn) List.nodup_range fun i hi => List.mem_range.mp hi
  rw [if_pos (List.mem_range.mpr hk)] at this
  exact this
/-- the kinds of tables' things -/
def tK (k : Nat) : Bool := Nat.beq k 5 || (Nat.beq k 140 || (Nat.beq k 224 || Nat.beq k 96))
/-- only the table t has changed -/
def TF (D : JD) (t : Nat) (h h' : JH) : Prop :=
  KF tK h h' ∧ (∀ u, u ≠ t → TabW D h u → TbS h h' u) ∧ jfr h' 45 t = jfr h 45 t ∧ (OT h → OT h') ∧ (TabW D h t → TabW D h' t) ∧ Sp h h' (21 * ((nz h (jfr h 45 t) 100 : Int) - nz h' (jfr h 45 t) 100)) (460 * ((nz h (jfr h 45 t) 100 : Int) - nz h' (jfr h 45 t) 100))
theorem TF.rf : TF D t h h := ⟨KF.rf, fun _ _ _ => TbS.rf, rfl, id, id, (Sp.rf _).mono (by omega) (by omega)⟩
theorem TF.tr (a : TF D t h h') (b : TF D t h' h'') : TF D t h h'' := by
  obtain ⟨a1, a2, a3, a4, a5, a6⟩ := a
  obtain ⟨b1, b2, b3, b4, b5, b6⟩ := b
  rw [a3] at b6
  refine ⟨a1.tr b1, fun u hu k => (a2 u hu k).tr (b2 u hu (k.of (a2 u hu k))), b3.trans a3, fun o => b4 (a4 o), fun k => b5 (a5 k), (a6.tr b6).mono (by omega) (by omega)⟩
/-- a cell of the table is written -/
theorem TF.cel (hI : JInv D h) (hI' : JInv D h') (hle : jle h h') (ow : OW h) (ot : OT h) (tw : TabW D h t) (hk : k < 100) (hj : j < 10) (hr : jar h (jfr h 45 t) k ≠ 0) (hf : CelF h h' (jar h (jar h (jfr h 45 t) k) j)) (hw : CelW D h' (jar h (jar h (jfr h 45 t) k) j)) : TF D t h h' := by
  have rw' := (tw.2.2 k hk).resolve_left hr
  have cw := (rw'.2.2.2 j hj).1
  have ck := (rw'.2.2.2 j hj).2
  have efr : ∀ F q, F ≠ 64 → F ≠ 67 → jfr h' F q = jfr h F q := hf.2.2.2.2.2.2.2
  have k140 : jkd h (jfr h 45 t) = 140 := hI.ref (F := 45) (by decide +kernel) tw.2.1.1
  have kf : KF tK h h' := hf.kf hI hle cw ow (by rw [ck]; rfl)
  have sm : ∀ q, q ≤ jsz h → jkd h q ≠ 0 → jkd h q ≠ 96 → jkd h q ≠ 144 → same h h' q := fun q q1 q2 q3 q4 => hf.1 q q1 (by
    rintro (z | z)
    · rw [z] at q3; exact q3 ck
    · rcases cw.2.2.2.2 with w | w
      · have := (hI.1 q q2).1
        omega
      · rw [← z] at w; exact q4 w.1)
  have sr : same h h' (jfr h 45 t) := sm _ hI.refl (by omega) (by omega) (by omega)
  have ar : ∀ a i, okd (jkd h' a) = true → jar h' a i ≠ 0 → okd (jkd h a) = true ∧ jar h' a i = jar h a i := fun a i ha hn => by
    by_cases z : jkd h a = 0
    · have := hI'.lt (fun e => by rw [e] at ha; cases ha)
      have n1 : jsz h < a := by
        by_cases g : jsz h < a
        · exact g
        · exfalso
          have ha' := okd_cases ha
          by_cases q : a = jar h (jar h (jfr h 45 t) k) j ∨ a = jfr h 67 (jar h (jar h (jfr h 45 t) k) j)
          · rcases q with q | q
            · rw [q, ck] at z; omega
            · rcases cw.2.2.2.2 with w | w
              · rw [w] at q
                rw [q] at ha'
                have : jkd h' 0 = 0 := by
                  by_cases z0 : jkd h' 0 = 0
                  · exact z0
                  · have := (hI'.1 0 z0).1; omega
                omega
              · rw [← q, z] at w; omega
          · have := (hf.1 a (by omega) q).kd
            omega
      rcases hf.2.1 with e | e
      · have := hf.2.2.2.2.1
        unfold pc67 at this
        rw [e] at this
        omega
      · exfalso
        have h5 := hf.2.2.2.2.1
        unfold pc67 at h5
        have : jfr h' 67 (jar h (jar h (jfr h 45 t) k) j) ≤ jsz h' := hI'.refl
        have ea : a = jfr h' 67 (jar h (jar h (jfr h 45 t) k) j) := by
          split at h5 <;> split at h5 <;> omega
        have w := hw.2.2.2.2.resolve_left (by omega)
        rw [← ea] at w
        rw [w.1] at ha
        cases ha
    · have kd := hle.2.2 a z
      rw [kd] at ha
      have hc := okd_cases ha
      exact ⟨ha, (sm a (hI.lt z) z (by omega) (by omega)).ar i⟩
  refine ⟨kf, fun u hu uw => ?_, efr 45 t (by decide) (by decide), fun _ => ⟨fun a b i i' ha hb e hn => ?_, fun a b => by rw [efr 45 a (by decide) (by decide), efr 45 b (by decide) (by decide)]; exact ot.2 a b⟩, fun _ => ?_, ?_⟩
  · have k140u : jkd h (jfr h 45 u) = 140 := hI.ref (F := 45) (by decide +kernel) uw.2.1.1
    refine ⟨sm u (hI.lt (by rw [uw.1.2]; decide)) (by rw [uw.1.2]; decide) (by rw [uw.1.2]; decide) (by rw [uw.1.2]; decide), sm _ hI.refl (by omega) (by omega) (by omega), fun k' hk' hr' => ?_⟩
    have ru := (uw.2.2 k' hk').resolve_left hr'
    refine ⟨sm _ hI.arl (by rw [ru.2.1]; decide) (by rw [ru.2.1]; decide) (by rw [ru.2.1]; decide), fun j' hj' => ?_⟩
    have cu := (ru.2.2.2 j' hj').1
    refine cu.oth hI ow.tx hf (fun e => ?_) cw
    have e1 := (ot.1 _ _ _ _ (by rw [ru.2.1]; rfl) (by rw [rw'.2.1]; rfl) e cu.1).1
    have e2 := (ot.1 _ _ _ _ (by rw [k140u]; rfl) (by rw [k140]; rfl) e1 hr').1
    exact hu (ot.2 u t e2 uw.2.1.1)
  · have ka := ar a i ha hn
    have kb := ar b i' hb (by rw [← e]; exact hn)
    exact ot.1 a b i i' ka.1 kb.1 (by rw [← ka.2, ← kb.2]; exact e) (by rw [← ka.2]; exact hn)
  · have s0 := sm t (hI.lt (by rw [tw.1.2]; decide)) (by rw [tw.1.2]; decide) (by rw [tw.1.2]; decide) (by rw [tw.1.2]; decide)
    refine ⟨⟨tw.1.1, by rw [s0.kd]; exact tw.1.2⟩, by rw [s0.fr, sr.ln]; exact tw.2.1, fun k' hk' => ?_⟩
    rw [s0.fr, sr.ar]
    by_cases z : jar h (jfr h 45 t) k' = 0
    · exact Or.inl z
    · have ru := (tw.2.2 k' hk').resolve_left z
      refine Or.inr ?_
      have sx := sm _ (hI.arl (a := jfr h 45 t) (i := k')) (by rw [ru.2.1]; decide) (by rw [ru.2.1]; decide) (by rw [ru.2.1]; decide)
      refine ⟨ru.1, by rw [sx.kd]; exact ru.2.1, by rw [sx.ln]; exact ru.2.2.1, fun j' hj' => ?_⟩
      rw [sx.ar]
      have cu := ru.2.2.2 j' hj'
      by_cases e : jar h (jar h (jfr h 45 t) k') j' = jar h (jar h (jfr h 45 t) k) j
      · rw [e, hf.2.2.2.2.2.2.1]
        exact ⟨hw, ck⟩
      · obtain ⟨o1, o2⟩ := cu.1.oth hI ow.tx hf e cw
        exact ⟨cu.1.of o1 o2, by rw [o1.kd]; exact cu.2⟩
  · have e : nz h' (jfr h 45 t) 100 = nz h (jfr h 45 t) 100 := nz_same fun i _ => sr.ar i
    rw [e]
    exact (hf.sp hI hI' (by rw [ck]; rfl) cw.1 hw).mono (by omega) (by omega)
end
