/-! what each method needs (printed by tools/gen_wp.py) -/
set_option maxRecDepth 4000
def W_J5_equals_55 (D : JD) (d : Nat) (Q : JO → JH → Prop) (s0 : Int32) (h : JH) : Prop :=
  jbo s0 ∧ (Q (.inl (some (vI s0))) h)
theorem w_J5_equals_55 {D : JD} {d : Nat} {Q : JO → JH → Prop} {s0 : Int32} {h : JH} (w : W_J5_equals_55 D d Q s0 h) : JW D (d + 1) mJ5_equals 55 [none, none, none] [vI s0] h Q := by
  unfold W_J5_equals_55 at w
  obtain ⟨g_1, w⟩ := w
  exact jw_ireturn rfl rfl (g_1.nr) w
def W_J5_equals_54 (D : JD) (d : Nat) (Q : JO → JH → Prop) (h : JH) : Prop :=
  W_J5_equals_55 D d Q (0 : Int32) h
theorem w_J5_equals_54 {D : JD} {d : Nat} {Q : JO → JH → Prop} {h : JH} (w : W_J5_equals_54 D d Q h) : JW D (d + 1) mJ5_equals 54 [none, none, none] [] h Q := by
  unfold W_J5_equals_54 at w
  refine jw_iconst (pc' := 55) (x := (0 : Int32)) rfl rfl ?_
  exact w_J5_equals_55 w
def W_J5_equals_36 (D : JD) (d : Nat) (Q : JO → JH → Prop) (r0 : Nat) (r2 : Nat) (h : JH) : Prop :=
  r0 ≠ 0 ∧ (r2 ≠ 0 ∧ (cJ8_equals D d (jfr h 75 r0) (jfr h 75 r2) h (pI D h (fun v_5 h_3 => (v_5 = 0 → W_J5_equals_54 D d Q h_3) ∧ (¬ v_5 = 0 → W_J5_equals_55 D d Q (1 : Int32) h_3)) (jth Q))))
theorem w_J5_equals_36 {D : JD} {d : Nat} {Q : JO → JH → Prop} {r0 : Nat} {r2 : Nat} {h : JH} (w : W_J5_equals_36 D d Q r0 r2 h) : JW D (d + 1) mJ5_equals 36 [some (vR 64 r0), none, some (vR 64 r2)] [] h Q := by
  unfold W_J5_equals_36 at w
  refine jw_aload_n (pc' := 37) rfl rfl ?_
  obtain ⟨g_1, w⟩ := w
  refine jw_getR (pc' := 40) (F := 75) (t' := 67) rfl rfl rfl rfl rfl g_1 ?_
  refine jw_aload_n (pc' := 41) rfl rfl ?_
  obtain ⟨g_2, w⟩ := w
  refine jw_getR (pc' := 44) (F := 75) (t' := 67) rfl rfl rfl rfl rfl g_2 ?_
  refine jw_cI (st := []) (sa := [vR 67 (jfr h 75 r0), vR 67 (jfr h 75 r2)]) okJ8_equals rfl rfl rfl rfl rfl rfl (jstp_static (sa := [vR 67 (jfr h 75 r0), vR 67 (jfr h 75 r2)]) (st := []) rfl rfl sJ8_equals okJ8_equals rfl rfl) w (fun v_5 h_3 _ _ w => ?_)
  refine jw_if_eq (tgt := 54) (pc' := 50) rfl rfl (fun c_6 => ?_) (fun c_6 => ?_)
  · replace w := w.1 c_6
    refine jw_gen (ls' := [none, none, none]) (st' := []) (trivial) (trivial) ?_
    exact w_J5_equals_54 w
  · replace w := w.2 c_6
    refine jw_iconst (pc' := 51) (x := (1 : Int32)) rfl rfl ?_
    refine jw_goto (pc' := 55) rfl rfl ?_
    refine jw_gen (ls' := [none, none, none]) (st' := [vI (1 : Int32)]) (trivial) (And.intro (Or.inl rfl) (trivial)) ?_
    exact w_J5_equals_55 w
def W_J5_equals_0 (D : JD) (d : Nat) (Q : JO → JH → Prop) (r0 : Nat) (r1 : Nat) (h : JH) : Prop :=
  (¬ r0 = r1 → r1 ≠ 0 ∧ sbt (jkd h r1) 64 = true ∧ ((r1 = 0 ∨ sbt (jkd h r1) 64 = true) ∧ (r0 ≠ 0 ∧ ((¬ (jfi h 76 r0) = (jfi h 76 r1) → W_J5_equals_54 D d Q h) ∧ ((jfi h 76 r0) = (jfi h 76 r1) → W_J5_equals_36 D d Q r0 r1 h))))) ∧ (r0 = r1 → Q (.inl (some (vI (1 : Int32)))) h)
theorem w_J5_equals_0 {D : JD} {d : Nat} {Q : JO → JH → Prop} {r0 : Nat} {r1 : Nat} {h : JH} (w : W_J5_equals_0 D d Q r0 r1 h) : JW D (d + 1) mJ5_equals 0 [some (vR 64 r0), some (vR 59 r1), none] [] h Q := by
  unfold W_J5_equals_0 at w
  refine jw_aload_n (pc' := 1) rfl rfl ?_
  refine jw_aload_n (pc' := 2) rfl rfl ?_
  refine jw_acmp_ne (tgt := 7) (pc' := 5) rfl rfl (fun c_1 => ?_) (fun c_1 => ?_)
  · replace w := w.1 c_1
    refine jw_aload_n (pc' := 8) rfl rfl ?_
    obtain ⟨g_2, w⟩ := w
    obtain ⟨g_3, w⟩ := w
    refine jw_instS (pc' := 11) rfl rfl g_2 g_3 ?_
    refine jw_if_eq (tgt := 54) (pc' := 14) rfl rfl (fun c_4 => absurd c_4 (by decide)) (fun _ => ?_)
    refine jw_aload_n (pc' := 15) rfl rfl ?_
    obtain ⟨g_5, w⟩ := w
    refine jw_castS (pc' := 18) rfl rfl g_5 ?_
    refine jw_astore_n (pc' := 19) (ls' := [some (vR 64 r0), some (vR 59 r1), some (vR 64 r1)]) rfl (by decide) rfl ?_
    refine jw_getsI (pc' := 22) (v := (1 : Int32)) rfl rfl (by decide +kernel) ?_
    refine jw_if_eq (tgt := 36) (pc' := 25) rfl rfl (fun c_6 => absurd c_6 (by decide)) (fun _ => ?_)
    refine jw_aload_n (pc' := 26) rfl rfl ?_
    obtain ⟨g_7, w⟩ := w
    refine jw_getI (pc' := 29) (F := 76) rfl rfl rfl rfl g_7 ?_
    refine jw_aload_n (pc' := 30) rfl rfl ?_
    refine jw_getI (pc' := 33) (F := 76) rfl rfl rfl rfl g_2 ?_
    refine jw_icmp_ne (tgt := 54) (pc' := 36) rfl rfl (fun c_8 => ?_) (fun c_8 => ?_)
    · replace w := w.1 c_8
      refine jw_gen (ls' := [none, none, none]) (st' := []) (trivial) (trivial) ?_
      exact w_J5_equals_54 w
    · replace w := w.2 c_8
      refine jw_gen (ls' := [some (vR 64 r0), none, some (vR 64 r1)]) (st' := []) (And.intro (Or.inl rfl) (And.intro (Or.inl rfl) (trivial))) (trivial) ?_
      exact w_J5_equals_36 w
  · replace w := w.2 c_1
    refine jw_iconst (pc' := 6) (x := (1 : Int32)) rfl rfl ?_
    exact jw_ireturn rfl rfl (rfl) w
def T_J5_equals (D : JD) (d : Nat) (Q : JO → JH → Prop) (r0 : Nat) (r1 : Nat) (h : JH) : Prop := W_J5_equals_0 D d Q r0 r1 h
theorem t_J5_equals {D : JD} {d : Nat} {Q : JO → JH → Prop} {r0 : Nat} {r1 : Nat} {h : JH} (w : T_J5_equals D d Q r0 r1 h) : cJ5_equals D (d + 1) r0 r1 h Q := by
  unfold T_J5_equals at w
  unfold cJ5_equals
  exact w_J5_equals_0 w
def W_J5_charAt_0 (D : JD) (d : Nat) (Q : JO → JH → Prop) (r0 : Nat) (x1 : Int32) (h : JH) : Prop :=
  r0 ≠ 0 ∧ (cJ5_isLatin1 D d r0 h (pI D h (fun v_4 h_2 => (v_4 = 0 → cJ10_charAt D d (jfr h_2 75 r0) x1 h_2 (pI D h_2 (fun v_8 h_6 => narrow .char (.int v_8) = .int v_8 ∧ (Q (.inl (some (vI v_8))) h_6)) (jth Q))) ∧ (¬ v_4 = 0 → cJ8_charAt D d (jfr h_2 75 r0) x1 h_2 (pI D h_2 (fun v_12 h_10 => narrow .char (.int v_12) = .int v_12 ∧ (Q (.inl (some (vI v_12))) h_10)) (jth Q)))) (jth Q)))
theorem w_J5_charAt_0 {D : JD} {d : Nat} {Q : JO → JH → Prop} {r0 : Nat} {x1 : Int32} {h : JH} (w : W_J5_charAt_0 D d Q r0 x1 h) : JW D (d + 1) mJ5_charAt 0 [some (vR 64 r0), some (vI x1)] [] h Q := by
  unfold W_J5_charAt_0 at w
  refine jw_aload_n (pc' := 1) rfl rfl ?_
  obtain ⟨g_1, w⟩ := w
  refine jw_cI (st := []) (sa := [vR 64 r0]) okJ5_isLatin1 rfl rfl rfl rfl rfl rfl (jstp_virtual (sa := []) (st := []) (k := 0) rfl rfl sJ5_isLatin1 okJ5_isLatin1 g_1 (one64.k g_1) rfl rfl) w (fun v_4 h_2 _ _ w => ?_)
  refine jw_if_eq (tgt := 16) (pc' := 7) rfl rfl (fun c_5 => ?_) (fun c_5 => ?_)
  · replace w := w.1 c_5
    refine jw_aload_n (pc' := 17) rfl rfl ?_
    refine jw_getR (pc' := 20) (F := 75) (t' := 67) rfl rfl rfl rfl rfl g_1 ?_
    refine jw_iload_n (pc' := 21) rfl rfl ?_
    refine jw_cI (st := []) (sa := [vR 67 (jfr h_2 75 r0), vI x1]) okJ10_charAt rfl rfl rfl rfl rfl rfl (jstp_static (sa := [vR 67 (jfr h_2 75 r0), vI x1]) (st := []) rfl rfl sJ10_charAt okJ10_charAt rfl rfl) w (fun v_8 h_6 _ _ w => ?_)
    obtain ⟨g_9, w⟩ := w
    exact jw_ireturn rfl rfl (g_9) w
  · replace w := w.2 c_5
    refine jw_aload_n (pc' := 8) rfl rfl ?_
    refine jw_getR (pc' := 11) (F := 75) (t' := 67) rfl rfl rfl rfl rfl g_1 ?_
    refine jw_iload_n (pc' := 12) rfl rfl ?_
    refine jw_cI (st := []) (sa := [vR 67 (jfr h_2 75 r0), vI x1]) okJ8_charAt rfl rfl rfl rfl rfl rfl (jstp_static (sa := [vR 67 (jfr h_2 75 r0), vI x1]) (st := []) rfl rfl sJ8_charAt okJ8_charAt rfl rfl) w (fun v_12 h_10 _ _ w => ?_)
    obtain ⟨g_13, w⟩ := w
    exact jw_ireturn rfl rfl (g_13) w
def T_J5_charAt (D : JD) (d : Nat) (Q : JO → JH → Prop) (r0 : Nat) (x1 : Int32) (h : JH) : Prop := W_J5_charAt_0 D d Q r0 x1 h
theorem t_J5_charAt {D : JD} {d : Nat} {Q : JO → JH → Prop} {r0 : Nat} {x1 : Int32} {h : JH} (w : T_J5_charAt D d Q r0 x1 h) : cJ5_charAt D (d + 1) r0 x1 h Q := by
  unfold T_J5_charAt at w
  unfold cJ5_charAt
  exact w_J5_charAt_0 w
def W_J5_isLatin1_18 (D : JD) (d : Nat) (Q : JO → JH → Prop) (s0 : Int32) (h : JH) : Prop :=
  jbo s0 ∧ (Q (.inl (some (vI s0))) h)
theorem w_J5_isLatin1_18 {D : JD} {d : Nat} {Q : JO → JH → Prop} {s0 : Int32} {h : JH} (w : W_J5_isLatin1_18 D d Q s0 h) : JW D (d + 1) mJ5_isLatin1 18 [none] [vI s0] h Q := by
  unfold W_J5_isLatin1_18 at w
  obtain ⟨g_1, w⟩ := w
  exact jw_ireturn rfl rfl (g_1.nr) w
def W_J5_isLatin1_17 (D : JD) (d : Nat) (Q : JO → JH → Prop) (h : JH) : Prop :=
  W_J5_isLatin1_18 D d Q (0 : Int32) h
theorem w_J5_isLatin1_17 {D : JD} {d : Nat} {Q : JO → JH → Prop} {h : JH} (w : W_J5_isLatin1_17 D d Q h) : JW D (d + 1) mJ5_isLatin1 17 [none] [] h Q := by
  unfold W_J5_isLatin1_17 at w
  refine jw_iconst (pc' := 18) (x := (0 : Int32)) rfl rfl ?_
  exact w_J5_isLatin1_18 w
def W_J5_isLatin1_0 (D : JD) (d : Nat) (Q : JO → JH → Prop) (r0 : Nat) (h : JH) : Prop :=
  r0 ≠ 0 ∧ ((¬ (jfi h 76 r0) = 0 → W_J5_isLatin1_17 D d Q h) ∧ ((jfi h 76 r0) = 0 → W_J5_isLatin1_18 D d Q (1 : Int32) h))
theorem w_J5_isLatin1_0 {D : JD} {d : Nat} {Q : JO → JH → Prop} {r0 : Nat} {h : JH} (w : W_J5_isLatin1_0 D d Q r0 h) : JW D (d + 1) mJ5_isLatin1 0 [some (vR 64 r0)] [] h Q := by
  unfold W_J5_isLatin1_0 at w
  refine jw_getsI (pc' := 3) (v := (1 : Int32)) rfl rfl (by decide +kernel) ?_
  refine jw_if_eq (tgt := 17) (pc' := 6) rfl rfl (fun c_1 => absurd c_1 (by decide)) (fun _ => ?_)
  refine jw_aload_n (pc' := 7) rfl rfl ?_
  obtain ⟨g_2, w⟩ := w
  refine jw_getI (pc' := 10) (F := 76) rfl rfl rfl rfl g_2 ?_
  refine jw_if_ne (tgt := 17) (pc' := 13) rfl rfl (fun c_3 => ?_) (fun c_3 => ?_)
  · replace w := w.1 c_3
    refine jw_gen (ls' := [none]) (st' := []) (trivial) (trivial) ?_
    exact w_J5_isLatin1_17 w
  · replace w := w.2 c_3
    refine jw_iconst (pc' := 14) (x := (1 : Int32)) rfl rfl ?_
    refine jw_goto (pc' := 18) rfl rfl ?_
    refine jw_gen (ls' := [none]) (st' := [vI (1 : Int32)]) (trivial) (And.intro (Or.inl rfl) (trivial)) ?_
    exact w_J5_isLatin1_18 w
def T_J5_isLatin1 (D : JD) (d : Nat) (Q : JO → JH → Prop) (r0 : Nat) (h : JH) : Prop := W_J5_isLatin1_0 D d Q r0 h
theorem t_J5_isLatin1 {D : JD} {d : Nat} {Q : JO → JH → Prop} {r0 : Nat} {h : JH} (w : T_J5_isLatin1 D d Q r0 h) : cJ5_isLatin1 D (d + 1) r0 h Q := by
  unfold T_J5_isLatin1 at w
  unfold cJ5_isLatin1
  exact w_J5_isLatin1_0 w
def W_J5_init_3_0 (D : JD) (d : Nat) (Q : JO → JH → Prop) (r0 : Nat) (r1 : Nat) (x2 : Int32) (h : JH) : Prop :=
  r0 ≠ 0 ∧ (wrt (jkd h r0) = true ∧ ∀ h_3 : JH, h_3 = wfr h 75 r0 r1 → (wrt (jkd h_3 r0) = true ∧ jby x2 ∧ ∀ h_7 : JH, h_7 = wfi h_3 76 r0 x2 → (Q (.inl none) h_7)))
theorem w_J5_init_3_0 {D : JD} {d : Nat} {Q : JO → JH → Prop} {r0 : Nat} {r1 : Nat} {x2 : Int32} {h : JH} (w : W_J5_init_3_0 D d Q r0 r1 x2 h) : JW D (d + 1) mJ5_init_3 0 [some (vR 64 r0), some (vR 67 r1), some (vI x2)] [] h Q := by
  unfold W_J5_init_3_0 at w
  refine jw_aload_n (pc' := 1) rfl rfl ?_
  obtain ⟨g_1, w⟩ := w
  refine jw_obj (pc' := 4) rfl (lw_g (jtb_mem (c := 4) (i := 26) rfl) rfl) rfl g_1 ?_
  refine jw_aload_n (pc' := 5) rfl rfl ?_
  refine jw_aload_n (pc' := 6) rfl rfl ?_
  obtain ⟨g_2, w⟩ := w
  refine jw_putR' (pc' := 9) (F := 75) rfl rfl rfl (Or.inl g_2) (Or.inr ⟨rfl, rfl⟩) rfl rfl rfl g_1 (fun h_3 e_4 => ?_)
  replace w := w h_3 e_4
  refine jw_aload_n (pc' := 10) rfl rfl ?_
  refine jw_iload_n (pc' := 11) rfl rfl ?_
  obtain ⟨g_5, w⟩ := w
  obtain ⟨g_6, w⟩ := w
  refine jw_putI' (pc' := 14) (F := 76) rfl rfl rfl (Or.inl g_5) (Or.inr ⟨rfl, rfl⟩) rfl (g_6.nr) (g_6.ft) rfl g_1 (fun h_7 e_8 => ?_)
  replace w := w h_7 e_8
  exact jw_return rfl rfl w
def T_J5_init_3 (D : JD) (d : Nat) (Q : JO → JH → Prop) (r0 : Nat) (r1 : Nat) (x2 : Int32) (h : JH) : Prop := W_J5_init_3_0 D d Q r0 r1 x2 h
theorem t_J5_init_3 {D : JD} {d : Nat} {Q : JO → JH → Prop} {r0 : Nat} {r1 : Nat} {x2 : Int32} {h : JH} (w : T_J5_init_3 D d Q r0 r1 x2 h) : cJ5_init_3 D (d + 1) r0 r1 x2 h Q := by
  unfold T_J5_init_3 at w
  unfold cJ5_init_3
  exact w_J5_init_3_0 w
def W_J5_hashCode_58 (D : JD) (d : Nat) (Q : JO → JH → Prop) (x1 : Int32) (h : JH) : Prop :=
  Q (.inl (some (vI x1))) h
theorem w_J5_hashCode_58 {D : JD} {d : Nat} {Q : JO → JH → Prop} {x1 : Int32} {h : JH} (w : W_J5_hashCode_58 D d Q x1 h) : JW D (d + 1) mJ5_hashCode 58 [none, some (vI x1)] [] h Q := by
  unfold W_J5_hashCode_58 at w
  refine jw_iload_n (pc' := 59) rfl rfl ?_
  exact jw_ireturn rfl rfl (rfl) w
def W_J5_hashCode_40 (D : JD) (d : Nat) (Q : JO → JH → Prop) (r0 : Nat) (s0 : Int32) (h : JH) : Prop :=
  (¬ s0 = 0 → r0 ≠ 0 ∧ wrt (jkd h r0) = true ∧ ∀ h_4 : JH, h_4 = wfi h 77 r0 s0 → (W_J5_hashCode_58 D d Q s0 h_4)) ∧ (s0 = 0 → r0 ≠ 0 ∧ wrt (jkd h r0) = true ∧ ∀ h_8 : JH, h_8 = wfi h 78 r0 (1 : Int32) → (W_J5_hashCode_58 D d Q s0 h_8))
theorem w_J5_hashCode_40 {D : JD} {d : Nat} {Q : JO → JH → Prop} {r0 : Nat} {s0 : Int32} {h : JH} (w : W_J5_hashCode_40 D d Q r0 s0 h) : JW D (d + 1) mJ5_hashCode 40 [some (vR 64 r0), none] [vI s0] h Q := by
  unfold W_J5_hashCode_40 at w
  refine jw_istore_n (pc' := 41) (ls' := [some (vR 64 r0), some (vI s0)]) rfl (by decide) rfl ?_
  refine jw_iload_n (pc' := 42) rfl rfl ?_
  refine jw_if_ne (tgt := 53) (pc' := 45) rfl rfl (fun c_1 => ?_) (fun c_1 => ?_)
  · replace w := w.1 c_1
    refine jw_aload_n (pc' := 54) rfl rfl ?_
    refine jw_iload_n (pc' := 55) rfl rfl ?_
    obtain ⟨g_2, w⟩ := w
    obtain ⟨g_3, w⟩ := w
    refine jw_putI' (pc' := 58) (F := 77) rfl rfl rfl (Or.inl g_3) (Or.inl rfl) rfl (rfl) (rfl) rfl g_2 (fun h_4 e_5 => ?_)
    replace w := w h_4 e_5
    refine jw_gen (ls' := [none, some (vI s0)]) (st' := []) (And.intro (Or.inl rfl) (trivial)) (trivial) ?_
    exact w_J5_hashCode_58 w
  · replace w := w.2 c_1
    refine jw_aload_n (pc' := 46) rfl rfl ?_
    refine jw_iconst (pc' := 47) (x := (1 : Int32)) rfl rfl ?_
    obtain ⟨g_6, w⟩ := w
    obtain ⟨g_7, w⟩ := w
    refine jw_putI' (pc' := 50) (F := 78) rfl rfl rfl (Or.inl g_7) (Or.inl rfl) rfl (rfl) (rfl) rfl g_6 (fun h_8 e_9 => ?_)
    replace w := w h_8 e_9
    refine jw_goto (pc' := 58) rfl rfl ?_
    refine jw_gen (ls' := [none, some (vI s0)]) (st' := []) (And.intro (Or.inl rfl) (trivial)) (trivial) ?_
    exact w_J5_hashCode_58 w
def W_J5_hashCode_0 (D : JD) (d : Nat) (Q : JO → JH → Prop) (r0 : Nat) (h : JH) : Prop :=
  r0 ≠ 0 ∧ ((¬ (jfi h 77 r0) = 0 → W_J5_hashCode_58 D d Q (jfi h 77 r0) h) ∧ ((jfi h 77 r0) = 0 → (¬ (jfi h 78 r0) = 0 → W_J5_hashCode_58 D d Q (jfi h 77 r0) h) ∧ ((jfi h 78 r0) = 0 → cJ5_isLatin1 D d r0 h (pI D h (fun v_6 h_4 => (v_6 = 0 → cJ10_hashCode D d (jfr h_4 75 r0) h_4 (pI D h_4 (fun v_10 h_8 => W_J5_hashCode_40 D d Q r0 v_10 h_8) (jth Q))) ∧ (¬ v_6 = 0 → cJ8_hashCode D d (jfr h_4 75 r0) h_4 (pI D h_4 (fun v_13 h_11 => W_J5_hashCode_40 D d Q r0 v_13 h_11) (jth Q)))) (jth Q)))))
theorem w_J5_hashCode_0 {D : JD} {d : Nat} {Q : JO → JH → Prop} {r0 : Nat} {h : JH} (w : W_J5_hashCode_0 D d Q r0 h) : JW D (d + 1) mJ5_hashCode 0 [some (vR 64 r0), none] [] h Q := by
  unfold W_J5_hashCode_0 at w
  refine jw_aload_n (pc' := 1) rfl rfl ?_
  obtain ⟨g_1, w⟩ := w
  refine jw_getI (pc' := 4) (F := 77) rfl rfl rfl rfl g_1 ?_
  refine jw_istore_n (pc' := 5) (ls' := [some (vR 64 r0), some (vI (jfi h 77 r0))]) rfl (by decide) rfl ?_
  refine jw_iload_n (pc' := 6) rfl rfl ?_
  refine jw_if_ne (tgt := 58) (pc' := 9) rfl rfl (fun c_2 => ?_) (fun c_2 => ?_)
  · replace w := w.1 c_2
    refine jw_gen (ls' := [none, some (vI (jfi h 77 r0))]) (st' := []) (And.intro (Or.inl rfl) (trivial)) (trivial) ?_
    exact w_J5_hashCode_58 w
  · replace w := w.2 c_2
    refine jw_aload_n (pc' := 10) rfl rfl ?_
    refine jw_getI (pc' := 13) (F := 78) rfl rfl rfl rfl g_1 ?_
    refine jw_if_ne (tgt := 58) (pc' := 16) rfl rfl (fun c_3 => ?_) (fun c_3 => ?_)
    · replace w := w.1 c_3
      refine jw_gen (ls' := [none, some (vI (jfi h 77 r0))]) (st' := []) (And.intro (Or.inl rfl) (trivial)) (trivial) ?_
      exact w_J5_hashCode_58 w
    · replace w := w.2 c_3
      refine jw_aload_n (pc' := 17) rfl rfl ?_
      refine jw_cI (st := []) (sa := [vR 64 r0]) okJ5_isLatin1 rfl rfl rfl rfl rfl rfl (jstp_virtual (sa := []) (st := []) (k := 0) rfl rfl sJ5_isLatin1 okJ5_isLatin1 g_1 (one64.k g_1) rfl rfl) w (fun v_6 h_4 _ _ w => ?_)
      refine jw_if_eq (tgt := 33) (pc' := 23) rfl rfl (fun c_7 => ?_) (fun c_7 => ?_)
      · replace w := w.1 c_7
        refine jw_aload_n (pc' := 34) rfl rfl ?_
        refine jw_getR (pc' := 37) (F := 75) (t' := 67) rfl rfl rfl rfl rfl g_1 ?_
        refine jw_cI (st := []) (sa := [vR 67 (jfr h_4 75 r0)]) okJ10_hashCode rfl rfl rfl rfl rfl rfl (jstp_static (sa := [vR 67 (jfr h_4 75 r0)]) (st := []) rfl rfl sJ10_hashCode okJ10_hashCode rfl rfl) w (fun v_10 h_8 _ _ w => ?_)
        refine jw_gen (ls' := [some (vR 64 r0), none]) (st' := [vI v_10]) (And.intro (Or.inl rfl) (trivial)) (And.intro (Or.inl rfl) (trivial)) ?_
        exact w_J5_hashCode_40 w
      · replace w := w.2 c_7
        refine jw_aload_n (pc' := 24) rfl rfl ?_
        refine jw_getR (pc' := 27) (F := 75) (t' := 67) rfl rfl rfl rfl rfl g_1 ?_
        refine jw_cI (st := []) (sa := [vR 67 (jfr h_4 75 r0)]) okJ8_hashCode rfl rfl rfl rfl rfl rfl (jstp_static (sa := [vR 67 (jfr h_4 75 r0)]) (st := []) rfl rfl sJ8_hashCode okJ8_hashCode rfl rfl) w (fun v_13 h_11 _ _ w => ?_)
        refine jw_goto (pc' := 40) rfl rfl ?_
        refine jw_gen (ls' := [some (vR 64 r0), none]) (st' := [vI v_13]) (And.intro (Or.inl rfl) (trivial)) (And.intro (Or.inl rfl) (trivial)) ?_
        exact w_J5_hashCode_40 w
def T_J5_hashCode (D : JD) (d : Nat) (Q : JO → JH → Prop) (r0 : Nat) (h : JH) : Prop := W_J5_hashCode_0 D d Q r0 h
theorem t_J5_hashCode {D : JD} {d : Nat} {Q : JO → JH → Prop} {r0 : Nat} {h : JH} (w : T_J5_hashCode D d Q r0 h) : cJ5_hashCode D (d + 1) r0 h Q := by
  unfold T_J5_hashCode at w
  unfold cJ5_hashCode
  exact w_J5_hashCode_0 w
def W_J5_startsWith_0 (D : JD) (d : Nat) (Q : JO → JH → Prop) (r0 : Nat) (r1 : Nat) (h : JH) : Prop :=
  r0 ≠ 0 ∧ (cJ5_startsWith_2 D d r0 r1 (0 : Int32) h (pI D h (fun v_4 h_2 => jbo v_4 ∧ (Q (.inl (some (vI v_4))) h_2)) (jth Q)))
theorem w_J5_startsWith_0 {D : JD} {d : Nat} {Q : JO → JH → Prop} {r0 : Nat} {r1 : Nat} {h : JH} (w : W_J5_startsWith_0 D d Q r0 r1 h) : JW D (d + 1) mJ5_startsWith 0 [some (vR 64 r0), some (vR 64 r1)] [] h Q := by
  unfold W_J5_startsWith_0 at w
  refine jw_aload_n (pc' := 1) rfl rfl ?_
  refine jw_aload_n (pc' := 2) rfl rfl ?_
  refine jw_iconst (pc' := 3) (x := (0 : Int32)) rfl rfl ?_
  obtain ⟨g_1, w⟩ := w
  refine jw_cI (st := []) (sa := [vR 64 r0, vR 64 r1, vI (0 : Int32)]) okJ5_startsWith_2 rfl rfl rfl rfl rfl rfl (jstp_virtual (sa := [vR 64 r1, vI (0 : Int32)]) (st := []) (k := 0) rfl rfl sJ5_startsWith_2 okJ5_startsWith_2 g_1 (one64.k g_1) rfl rfl) w (fun v_4 h_2 _ _ w => ?_)
  obtain ⟨g_5, w⟩ := w
  exact jw_ireturn rfl rfl (g_5.nr) w
def T_J5_startsWith (D : JD) (d : Nat) (Q : JO → JH → Prop) (r0 : Nat) (r1 : Nat) (h : JH) : Prop := W_J5_startsWith_0 D d Q r0 r1 h
theorem t_J5_startsWith {D : JD} {d : Nat} {Q : JO → JH → Prop} {r0 : Nat} {r1 : Nat} {h : JH} (w : T_J5_startsWith D d Q r0 r1 h) : cJ5_startsWith D (d + 1) r0 r1 h Q := by
  unfold T_J5_startsWith at w
  unfold cJ5_startsWith
  exact w_J5_startsWith_0 w
def W_J5_startsWith_2_17 (D : JD) (d : Nat) (Q : JO → JH → Prop) (h : JH) : Prop :=
  Q (.inl (some (vI (0 : Int32)))) h
theorem w_J5_startsWith_2_17 {D : JD} {d : Nat} {Q : JO → JH → Prop} {h : JH} (w : W_J5_startsWith_2_17 D d Q h) : JW D (d + 1) mJ5_startsWith_2 17 [none, none, none, none, none, none, none, none] [] h Q := by
  unfold W_J5_startsWith_2_17 at w
  refine jw_iconst (pc' := 18) (x := (0 : Int32)) rfl rfl ?_
  exact jw_ireturn rfl rfl (rfl) w
def W_J5_startsWith_2_89 (D : JD) (d : Nat) (Q : JO → JH → Prop) (K89 : Int32 → Nat → Nat → Int32 → Int32 → JH → Prop) (x2 : Int32) (r3 : Nat) (r4 : Nat) (x5 : Int32) (x6 : Int32) (h : JH) : Prop :=
  (x6 ≤ x5 → Q (.inl (some (vI (1 : Int32)))) h) ∧ (¬ x6 ≤ x5 → cJ10_getChar D d r3 x2 h (pI D h (fun v_4 h_2 => r4 ≠ 0 ∧ jin x5 (jln h_2 r4) ∧ ((v_4 = ((jai h_2 r4 (ixn x5)) &&& (255 : Int32)) → K89 (x2 + (1 : Int32)) r3 r4 (x5 + (1 : Int32)) x6 h_2) ∧ (¬ v_4 = ((jai h_2 r4 (ixn x5)) &&& (255 : Int32)) → Q (.inl (some (vI (0 : Int32)))) h_2))) (jth Q)))
theorem w_J5_startsWith_2_89 {D : JD} {d : Nat} {Q : JO → JH → Prop} {K89 : Int32 → Nat → Nat → Int32 → Int32 → JH → Prop} {x2 : Int32} {r3 : Nat} {r4 : Nat} {x5 : Int32} {x6 : Int32} {h : JH} (hK89 : ∀ (x2 : Int32) (r3 : Nat) (r4 : Nat) (x5 : Int32) (x6 : Int32) (h : JH), K89 x2 r3 r4 x5 x6 h → JW D (d + 1) mJ5_startsWith_2 89 [none, none, some (vI x2), some (vR 67 r3), some (vR 67 r4), some (vI x5), some (vI x6), none] [] h Q) (w : W_J5_startsWith_2_89 D d Q K89 x2 r3 r4 x5 x6 h) : JW D (d + 1) mJ5_startsWith_2 89 [none, none, some (vI x2), some (vR 67 r3), some (vR 67 r4), some (vI x5), some (vI x6), none] [] h Q := by
  unfold W_J5_startsWith_2_89 at w
  refine jw_iload (pc' := 91) rfl rfl ?_
  refine jw_iload (pc' := 93) rfl rfl ?_
  refine jw_icmp_ge (tgt := 121) (pc' := 96) rfl rfl (fun c_1 => ?_) (fun c_1 => ?_)
  · replace w := w.1 c_1
    refine jw_iconst (pc' := 122) (x := (1 : Int32)) rfl rfl ?_
    exact jw_ireturn rfl rfl (rfl) w
  · replace w := w.2 c_1
    refine jw_aload_n (pc' := 97) rfl rfl ?_
    refine jw_iload_n (pc' := 98) rfl rfl ?_
    refine jw_iinc (pc' := 101) (y := x2 + (1 : Int32)) (ls' := [none, none, some (vI (x2 + (1 : Int32))), some (vR 67 r3), some (vR 67 r4), some (vI x5), some (vI x6), none]) rfl (by decide) rfl rfl rfl ?_
    refine jw_cI (st := []) (sa := [vR 67 r3, vI x2]) okJ10_getChar rfl rfl rfl rfl rfl rfl (jstp_static (sa := [vR 67 r3, vI x2]) (st := []) rfl rfl sJ10_getChar okJ10_getChar rfl rfl) w (fun v_4 h_2 _ _ w => ?_)
    refine jw_aload (pc' := 106) rfl rfl ?_
    refine jw_iload (pc' := 108) rfl rfl ?_
    refine jw_iinc (pc' := 111) (y := x5 + (1 : Int32)) (ls' := [none, none, some (vI (x2 + (1 : Int32))), some (vR 67 r3), some (vR 67 r4), some (vI (x5 + (1 : Int32))), some (vI x6), none]) rfl (by decide) rfl rfl rfl ?_
    obtain ⟨g_5, w⟩ := w
    obtain ⟨g_6, w⟩ := w
    refine jw_bald (pc' := 112) rfl rfl rfl rfl g_5 g_6.ix g_6.2 ?_
    refine jw_sipush (pc' := 115) (x := (255 : Int32)) rfl rfl ?_
    refine jw_iand (pc' := 116) rfl ?_
    refine jw_icmp_eq (tgt := 89) (pc' := 119) rfl rfl (fun c_7 => ?_) (fun c_7 => ?_)
    · replace w := w.1 c_7
      exact hK89 _ _ _ _ _ _ w
    · replace w := w.2 c_7
      refine jw_iconst (pc' := 120) (x := (0 : Int32)) rfl rfl ?_
      exact jw_ireturn rfl rfl (rfl) w
def L_J5_startsWith_2_89 (D : JD) (d : Nat) (Q : JO → JH → Prop) : Nat → Int32 → Nat → Nat → Int32 → Int32 → JH → Prop
  | 0 => fun _ _ _ _ _ _ => False
  | n + 1 => fun x2 r3 r4 x5 x6 h => W_J5_startsWith_2_89 D d Q (L_J5_startsWith_2_89 D d Q n) x2 r3 r4 x5 x6 h
theorem l_J5_startsWith_2_89 {D : JD} {d : Nat} {Q : JO → JH → Prop} : ∀ (n : Nat) (x2 : Int32) (r3 : Nat) (r4 : Nat) (x5 : Int32) (x6 : Int32) (h : JH), L_J5_startsWith_2_89 D d Q n x2 r3 r4 x5 x6 h → JW D (d + 1) mJ5_startsWith_2 89 [none, none, some (vI x2), some (vR 67 r3), some (vR 67 r4), some (vI x5), some (vI x6), none] [] h Q := by
  intro n
  induction n with
  | zero => intro _ _ _ _ _ _ w; exact w.elim
  | succ n ih => intro _ _ _ _ _ h w; exact w_J5_startsWith_2_89 ih w
def W_J5_startsWith_2_81 (D : JD) (d : Nat) (Q : JO → JH → Prop) (s0 : Int32) (h : JH) : Prop :=
  jbo s0 ∧ (Q (.inl (some (vI s0))) h)
theorem w_J5_startsWith_2_81 {D : JD} {d : Nat} {Q : JO → JH → Prop} {s0 : Int32} {h : JH} (w : W_J5_startsWith_2_81 D d Q s0 h) : JW D (d + 1) mJ5_startsWith_2 81 [none, none, none, none, none, none, none, none] [vI s0] h Q := by
  unfold W_J5_startsWith_2_81 at w
  obtain ⟨g_1, w⟩ := w
  exact jw_ireturn rfl rfl (g_1.nr) w
def W_J5_startsWith_2_63 (D : JD) (d : Nat) (Q : JO → JH → Prop) (x2 : Int32) (r3 : Nat) (r4 : Nat) (x6 : Int32) (h : JH) : Prop :=
  cJ14_mismatch D d r3 x2 r4 (0 : Int32) x6 h (pI D h (fun v_3 h_1 => (0 ≤ v_3 → W_J5_startsWith_2_81 D d Q (0 : Int32) h_1) ∧ (¬ 0 ≤ v_3 → W_J5_startsWith_2_81 D d Q (1 : Int32) h_1)) (jth Q))
theorem w_J5_startsWith_2_63 {D : JD} {d : Nat} {Q : JO → JH → Prop} {x2 : Int32} {r3 : Nat} {r4 : Nat} {x6 : Int32} {h : JH} (w : W_J5_startsWith_2_63 D d Q x2 r3 r4 x6 h) : JW D (d + 1) mJ5_startsWith_2 63 [none, none, some (vI x2), some (vR 67 r3), some (vR 67 r4), none, some (vI x6), none] [] h Q := by
  unfold W_J5_startsWith_2_63 at w
  refine jw_aload_n (pc' := 64) rfl rfl ?_
  refine jw_iload_n (pc' := 65) rfl rfl ?_
  refine jw_aload (pc' := 67) rfl rfl ?_
  refine jw_iconst (pc' := 68) (x := (0 : Int32)) rfl rfl ?_
  refine jw_iload (pc' := 70) rfl rfl ?_
  refine jw_cI (st := []) (sa := [vR 67 r3, vI x2, vR 67 r4, vI (0 : Int32), vI x6]) okJ14_mismatch rfl rfl rfl rfl rfl rfl (jstp_static (sa := [vR 67 r3, vI x2, vR 67 r4, vI (0 : Int32), vI x6]) (st := []) rfl rfl sJ14_mismatch okJ14_mismatch rfl rfl) w (fun v_3 h_1 _ _ w => ?_)
  refine jw_if_ge (tgt := 80) (pc' := 76) rfl rfl (fun c_4 => ?_) (fun c_4 => ?_)
  · replace w := w.1 c_4
    refine jw_iconst (pc' := 81) (x := (0 : Int32)) rfl rfl ?_
    refine jw_gen (ls' := [none, none, none, none, none, none, none, none]) (st' := [vI (0 : Int32)]) (trivial) (And.intro (Or.inl rfl) (trivial)) ?_
    exact w_J5_startsWith_2_81 w
  · replace w := w.2 c_4
    refine jw_iconst (pc' := 77) (x := (1 : Int32)) rfl rfl ?_
    refine jw_goto (pc' := 81) rfl rfl ?_
    refine jw_gen (ls' := [none, none, none, none, none, none, none, none]) (st' := [vI (1 : Int32)]) (trivial) (And.intro (Or.inl rfl) (trivial)) ?_
    exact w_J5_startsWith_2_81 w
def W_J5_startsWith_2_0 (D : JD) (d : Nat) (Q : JO → JH → Prop) (r0 : Nat) (r1 : Nat) (x2 : Int32) (h : JH) : Prop :=
  (x2 < 0 → W_J5_startsWith_2_17 D d Q h) ∧ (¬ x2 < 0 → r0 ≠ 0 ∧ (cJ5_length D d r0 h (pI D h (fun v_5 h_3 => r1 ≠ 0 ∧ (cJ5_length D d r1 h_3 (pI D h_3 (fun v_9 h_7 => (x2 ≤ (v_5 - v_9) → (jfr h_7 75 r1) ≠ 0 ∧ (cJ5_coder D d r0 h_7 (pI D h_7 (fun v_14 h_12 => cJ5_coder D d r1 h_12 (pI D h_12 (fun v_17 h_15 => (¬ v_14 = v_17 → (¬ v_14 = 0 → ∃ n, L_J5_startsWith_2_89 D d Q n x2 (jfr h_7 75 r0) (jfr h_7 75 r1) (0 : Int32) (nI (jln h_7 (jfr h_7 75 r1))) h_15) ∧ (v_14 = 0 → Q (.inl (some (vI (0 : Int32)))) h_15)) ∧ (v_14 = v_17 → (¬ v_14 = (1 : Int32) → W_J5_startsWith_2_63 D d Q x2 (jfr h_7 75 r0) (jfr h_7 75 r1) (nI (jln h_7 (jfr h_7 75 r1))) h_15) ∧ (v_14 = (1 : Int32) → W_J5_startsWith_2_63 D d Q (x2 <<< ((1 : Int32) &&& 31)) (jfr h_7 75 r0) (jfr h_7 75 r1) (nI (jln h_7 (jfr h_7 75 r1))) h_15))) (jth Q))) (jth Q)))) ∧ (¬ x2 ≤ (v_5 - v_9) → W_J5_startsWith_2_17 D d Q h_7)) (jth Q)))) (jth Q))))
theorem w_J5_startsWith_2_0 {D : JD} {d : Nat} {Q : JO → JH → Prop} {r0 : Nat} {r1 : Nat} {x2 : Int32} {h : JH} (w : W_J5_startsWith_2_0 D d Q r0 r1 x2 h) : JW D (d + 1) mJ5_startsWith_2 0 [some (vR 64 r0), some (vR 64 r1), some (vI x2), none, none, none, none, none] [] h Q := by
  unfold W_J5_startsWith_2_0 at w
  refine jw_iload_n (pc' := 1) rfl rfl ?_
  refine jw_if_lt (tgt := 17) (pc' := 4) rfl rfl (fun c_1 => ?_) (fun c_1 => ?_)
  · replace w := w.1 c_1
    refine jw_gen (ls' := [none, none, none, none, none, none, none, none]) (st' := []) (trivial) (trivial) ?_
    exact w_J5_startsWith_2_17 w
  · replace w := w.2 c_1
    refine jw_iload_n (pc' := 5) rfl rfl ?_
    refine jw_aload_n (pc' := 6) rfl rfl ?_
    obtain ⟨g_2, w⟩ := w
    refine jw_cI (st := [vI x2]) (sa := [vR 64 r0]) okJ5_length rfl rfl rfl rfl rfl rfl (jstp_virtual (sa := []) (st := [vI x2]) (k := 0) rfl rfl sJ5_length okJ5_length g_2 (one64.k g_2) rfl rfl) w (fun v_5 h_3 _ _ w => ?_)
    refine jw_aload_n (pc' := 10) rfl rfl ?_
    obtain ⟨g_6, w⟩ := w
    refine jw_cI (st := [vI v_5, vI x2]) (sa := [vR 64 r1]) okJ5_length rfl rfl rfl rfl rfl rfl (jstp_virtual (sa := []) (st := [vI v_5, vI x2]) (k := 0) rfl rfl sJ5_length okJ5_length g_6 (one64.k g_6) rfl rfl) w (fun v_9 h_7 _ _ w => ?_)
    refine jw_isub (pc' := 14) rfl ?_
    refine jw_icmp_le (tgt := 19) (pc' := 17) rfl rfl (fun c_10 => ?_) (fun c_10 => ?_)
    · replace w := w.1 c_10
      refine jw_aload_n (pc' := 20) rfl rfl ?_
      refine jw_getR (pc' := 23) (F := 75) (t' := 67) rfl rfl rfl rfl rfl g_2 ?_
      refine jw_astore_n (pc' := 24) (ls' := [some (vR 64 r0), some (vR 64 r1), some (vI x2), some (vR 67 (jfr h_7 75 r0)), none, none, none, none]) rfl (by decide) rfl ?_
      refine jw_aload_n (pc' := 25) rfl rfl ?_
      refine jw_getR (pc' := 28) (F := 75) (t' := 67) rfl rfl rfl rfl rfl g_6 ?_
      refine jw_astore (pc' := 30) (ls' := [some (vR 64 r0), some (vR 64 r1), some (vI x2), some (vR 67 (jfr h_7 75 r0)), some (vR 67 (jfr h_7 75 r1)), none, none, none]) rfl (by decide) rfl ?_
      refine jw_iconst (pc' := 31) (x := (0 : Int32)) rfl rfl ?_
      refine jw_istore (pc' := 33) (ls' := [some (vR 64 r0), some (vR 64 r1), some (vI x2), some (vR 67 (jfr h_7 75 r0)), some (vR 67 (jfr h_7 75 r1)), some (vI (0 : Int32)), none, none]) rfl (by decide) rfl ?_
      refine jw_aload (pc' := 35) rfl rfl ?_
      obtain ⟨g_11, w⟩ := w
      refine jw_alen (pc' := 36) rfl rfl g_11 ?_
      refine jw_istore (pc' := 38) (ls' := [some (vR 64 r0), some (vR 64 r1), some (vI x2), some (vR 67 (jfr h_7 75 r0)), some (vR 67 (jfr h_7 75 r1)), some (vI (0 : Int32)), some (vI (nI (jln h_7 (jfr h_7 75 r1)))), none]) rfl (by decide) rfl ?_
      refine jw_aload_n (pc' := 39) rfl rfl ?_
      refine jw_cI (st := []) (sa := [vR 64 r0]) okJ5_coder rfl rfl rfl rfl rfl rfl (jstp_virtual (sa := []) (st := []) (k := 0) rfl rfl sJ5_coder okJ5_coder g_2 (one64.k g_2) rfl rfl) w (fun v_14 h_12 _ _ w => ?_)
      refine jw_istore (pc' := 44) (ls' := [some (vR 64 r0), some (vR 64 r1), some (vI x2), some (vR 67 (jfr h_7 75 r0)), some (vR 67 (jfr h_7 75 r1)), some (vI (0 : Int32)), some (vI (nI (jln h_7 (jfr h_7 75 r1)))), some (vI v_14)]) rfl (by decide) rfl ?_
      refine jw_iload (pc' := 46) rfl rfl ?_
      refine jw_aload_n (pc' := 47) rfl rfl ?_
      refine jw_cI (st := [vI v_14]) (sa := [vR 64 r1]) okJ5_coder rfl rfl rfl rfl rfl rfl (jstp_virtual (sa := []) (st := [vI v_14]) (k := 0) rfl rfl sJ5_coder okJ5_coder g_6 (one64.k g_6) rfl rfl) w (fun v_17 h_15 _ _ w => ?_)
      refine jw_icmp_ne (tgt := 82) (pc' := 53) rfl rfl (fun c_18 => ?_) (fun c_18 => ?_)
      · replace w := w.1 c_18
        refine jw_iload (pc' := 84) rfl rfl ?_
        refine jw_if_ne (tgt := 89) (pc' := 87) rfl rfl (fun c_19 => ?_) (fun c_19 => ?_)
        · replace w := w.1 c_19
          refine jw_gen (ls' := [none, none, some (vI x2), some (vR 67 (jfr h_7 75 r0)), some (vR 67 (jfr h_7 75 r1)), some (vI (0 : Int32)), some (vI (nI (jln h_7 (jfr h_7 75 r1)))), none]) (st' := []) (And.intro (Or.inl rfl) (And.intro (Or.inl rfl) (And.intro (Or.inl rfl) (And.intro (Or.inl rfl) (And.intro (Or.inl rfl) (trivial)))))) (trivial) ?_
          obtain ⟨n, w⟩ := w
          exact l_J5_startsWith_2_89 n _ _ _ _ _ _ w
        · replace w := w.2 c_19
          refine jw_iconst (pc' := 88) (x := (0 : Int32)) rfl rfl ?_
          exact jw_ireturn rfl rfl (rfl) w
      · replace w := w.2 c_18
        refine jw_iload (pc' := 55) rfl rfl ?_
        refine jw_iconst (pc' := 56) (x := (1 : Int32)) rfl rfl ?_
        refine jw_icmp_ne (tgt := 63) (pc' := 59) rfl rfl (fun c_20 => ?_) (fun c_20 => ?_)
        · replace w := w.1 c_20
          refine jw_gen (ls' := [none, none, some (vI x2), some (vR 67 (jfr h_7 75 r0)), some (vR 67 (jfr h_7 75 r1)), none, some (vI (nI (jln h_7 (jfr h_7 75 r1)))), none]) (st' := []) (And.intro (Or.inl rfl) (And.intro (Or.inl rfl) (And.intro (Or.inl rfl) (And.intro (Or.inl rfl) (trivial))))) (trivial) ?_
          exact w_J5_startsWith_2_63 w
        · replace w := w.2 c_20
          refine jw_iload_n (pc' := 60) rfl rfl ?_
          refine jw_iconst (pc' := 61) (x := (1 : Int32)) rfl rfl ?_
          refine jw_ishl (pc' := 62) rfl ?_
          refine jw_istore_n (pc' := 63) (ls' := [some (vR 64 r0), some (vR 64 r1), some (vI (x2 <<< ((1 : Int32) &&& 31))), some (vR 67 (jfr h_7 75 r0)), some (vR 67 (jfr h_7 75 r1)), some (vI (0 : Int32)), some (vI (nI (jln h_7 (jfr h_7 75 r1)))), some (vI v_14)]) rfl (by decide) rfl ?_
          refine jw_gen (ls' := [none, none, some (vI (x2 <<< ((1 : Int32) &&& 31))), some (vR 67 (jfr h_7 75 r0)), some (vR 67 (jfr h_7 75 r1)), none, some (vI (nI (jln h_7 (jfr h_7 75 r1)))), none]) (st' := []) (And.intro (Or.inl rfl) (And.intro (Or.inl rfl) (And.intro (Or.inl rfl) (And.intro (Or.inl rfl) (trivial))))) (trivial) ?_
          exact w_J5_startsWith_2_63 w
    · replace w := w.2 c_10
      refine jw_gen (ls' := [none, none, none, none, none, none, none, none]) (st' := []) (trivial) (trivial) ?_
      exact w_J5_startsWith_2_17 w
def T_J5_startsWith_2 (D : JD) (d : Nat) (Q : JO → JH → Prop) (r0 : Nat) (r1 : Nat) (x2 : Int32) (h : JH) : Prop := W_J5_startsWith_2_0 D d Q r0 r1 x2 h
theorem t_J5_startsWith_2 {D : JD} {d : Nat} {Q : JO → JH → Prop} {r0 : Nat} {r1 : Nat} {x2 : Int32} {h : JH} (w : T_J5_startsWith_2 D d Q r0 r1 x2 h) : cJ5_startsWith_2 D (d + 1) r0 r1 x2 h Q := by
  unfold T_J5_startsWith_2 at w
  unfold cJ5_startsWith_2
  exact w_J5_startsWith_2_0 w
def W_J5_substring_57 (D : JD) (d : Nat) (Q : JO → JH → Prop) (q0 : Nat) (h : JH) : Prop :=
  Q (.inl (some (vR 64 q0))) h
theorem w_J5_substring_57 {D : JD} {d : Nat} {Q : JO → JH → Prop} {q0 : Nat} {h : JH} (w : W_J5_substring_57 D d Q q0 h) : JW D (d + 1) mJ5_substring 57 [none, none, none, none, none] [vR 64 q0] h Q := by
  unfold W_J5_substring_57 at w
  exact jw_areturn rfl rfl rfl rfl rfl w
def W_J5_substring_22 (D : JD) (d : Nat) (Q : JO → JH → Prop) (r0 : Nat) (x1 : Int32) (x2 : Int32) (h : JH) : Prop :=
  r0 ≠ 0 ∧ (cJ5_isLatin1 D d r0 h (pI D h (fun v_4 h_2 => (v_4 = 0 → cJ10_newString D d (jfr h_2 75 r0) x1 (x2 - x1) h_2 (pR D h_2 64 (fun v_8 h_6 => W_J5_substring_57 D d Q v_8 h_6) (jth Q))) ∧ (¬ v_4 = 0 → cJ8_newString D d (jfr h_2 75 r0) x1 (x2 - x1) h_2 (pR D h_2 64 (fun v_11 h_9 => W_J5_substring_57 D d Q v_11 h_9) (jth Q)))) (jth Q)))
theorem w_J5_substring_22 {D : JD} {d : Nat} {Q : JO → JH → Prop} {r0 : Nat} {x1 : Int32} {x2 : Int32} {h : JH} (w : W_J5_substring_22 D d Q r0 x1 x2 h) : JW D (d + 1) mJ5_substring 22 [some (vR 64 r0), some (vI x1), some (vI x2), none, none] [] h Q := by
  unfold W_J5_substring_22 at w
  refine jw_iload_n (pc' := 23) rfl rfl ?_
  refine jw_iload_n (pc' := 24) rfl rfl ?_
  refine jw_isub (pc' := 25) rfl ?_
  refine jw_istore (pc' := 27) (ls' := [some (vR 64 r0), some (vI x1), some (vI x2), none, some (vI (x2 - x1))]) rfl (by decide) rfl ?_
  refine jw_aload_n (pc' := 28) rfl rfl ?_
  obtain ⟨g_1, w⟩ := w
  refine jw_cI (st := []) (sa := [vR 64 r0]) okJ5_isLatin1 rfl rfl rfl rfl rfl rfl (jstp_virtual (sa := []) (st := []) (k := 0) rfl rfl sJ5_isLatin1 okJ5_isLatin1 g_1 (one64.k g_1) rfl rfl) w (fun v_4 h_2 _ _ w => ?_)
  refine jw_if_eq (tgt := 47) (pc' := 34) rfl rfl (fun c_5 => ?_) (fun c_5 => ?_)
  · replace w := w.1 c_5
    refine jw_aload_n (pc' := 48) rfl rfl ?_
    refine jw_getR (pc' := 51) (F := 75) (t' := 67) rfl rfl rfl rfl rfl g_1 ?_
    refine jw_iload_n (pc' := 52) rfl rfl ?_
    refine jw_iload (pc' := 54) rfl rfl ?_
    refine jw_cR (st := []) (sa := [vR 67 (jfr h_2 75 r0), vI x1, vI (x2 - x1)]) okJ10_newString rfl rfl rfl rfl rfl rfl (jstp_static (sa := [vR 67 (jfr h_2 75 r0), vI x1, vI (x2 - x1)]) (st := []) rfl rfl sJ10_newString okJ10_newString rfl rfl) w (fun v_8 h_6 _ _ _ w => ?_)
    refine jw_gen (ls' := [none, none, none, none, none]) (st' := [vR 64 v_8]) (trivial) (And.intro (Or.inl rfl) (trivial)) ?_
    exact w_J5_substring_57 w
  · replace w := w.2 c_5
    refine jw_aload_n (pc' := 35) rfl rfl ?_
    refine jw_getR (pc' := 38) (F := 75) (t' := 67) rfl rfl rfl rfl rfl g_1 ?_
    refine jw_iload_n (pc' := 39) rfl rfl ?_
    refine jw_iload (pc' := 41) rfl rfl ?_
    refine jw_cR (st := []) (sa := [vR 67 (jfr h_2 75 r0), vI x1, vI (x2 - x1)]) okJ8_newString rfl rfl rfl rfl rfl rfl (jstp_static (sa := [vR 67 (jfr h_2 75 r0), vI x1, vI (x2 - x1)]) (st := []) rfl rfl sJ8_newString okJ8_newString rfl rfl) w (fun v_11 h_9 _ _ _ w => ?_)
    refine jw_goto (pc' := 57) rfl rfl ?_
    refine jw_gen (ls' := [none, none, none, none, none]) (st' := [vR 64 v_11]) (trivial) (And.intro (Or.inl rfl) (trivial)) ?_
    exact w_J5_substring_57 w
def W_J5_substring_0 (D : JD) (d : Nat) (Q : JO → JH → Prop) (r0 : Nat) (x1 : Int32) (x2 : Int32) (h : JH) : Prop :=
  r0 ≠ 0 ∧ (cJ5_length D d r0 h (pI D h (fun v_4 h_2 => cJ5_checkBoundsBeginEnd D d x1 x2 v_4 h_2 (pV D h_2 (fun h_5 => (¬ x1 = 0 → W_J5_substring_22 D d Q r0 x1 x2 h_5) ∧ (x1 = 0 → (¬ x2 = v_4 → W_J5_substring_22 D d Q r0 x1 x2 h_5) ∧ (x2 = v_4 → Q (.inl (some (vR 64 r0))) h_5))) (jth Q))) (jth Q)))
theorem w_J5_substring_0 {D : JD} {d : Nat} {Q : JO → JH → Prop} {r0 : Nat} {x1 : Int32} {x2 : Int32} {h : JH} (w : W_J5_substring_0 D d Q r0 x1 x2 h) : JW D (d + 1) mJ5_substring 0 [some (vR 64 r0), some (vI x1), some (vI x2), none, none] [] h Q := by
  unfold W_J5_substring_0 at w
  refine jw_aload_n (pc' := 1) rfl rfl ?_
  obtain ⟨g_1, w⟩ := w
  refine jw_cI (st := []) (sa := [vR 64 r0]) okJ5_length rfl rfl rfl rfl rfl rfl (jstp_virtual (sa := []) (st := []) (k := 0) rfl rfl sJ5_length okJ5_length g_1 (one64.k g_1) rfl rfl) w (fun v_4 h_2 _ _ w => ?_)
  refine jw_istore_n (pc' := 5) (ls' := [some (vR 64 r0), some (vI x1), some (vI x2), some (vI v_4), none]) rfl (by decide) rfl ?_
  refine jw_iload_n (pc' := 6) rfl rfl ?_
  refine jw_iload_n (pc' := 7) rfl rfl ?_
  refine jw_iload_n (pc' := 8) rfl rfl ?_
  refine jw_cV (st := []) (sa := [vI x1, vI x2, vI v_4]) okJ5_checkBoundsBeginEnd rfl rfl rfl rfl rfl rfl (jstp_static (sa := [vI x1, vI x2, vI v_4]) (st := []) rfl rfl sJ5_checkBoundsBeginEnd okJ5_checkBoundsBeginEnd rfl rfl) w (fun h_5 _ _ w => ?_)
  refine jw_iload_n (pc' := 12) rfl rfl ?_
  refine jw_if_ne (tgt := 22) (pc' := 15) rfl rfl (fun c_8 => ?_) (fun c_8 => ?_)
  · replace w := w.1 c_8
    refine jw_gen (ls' := [some (vR 64 r0), some (vI x1), some (vI x2), none, none]) (st' := []) (And.intro (Or.inl rfl) (And.intro (Or.inl rfl) (And.intro (Or.inl rfl) (trivial)))) (trivial) ?_
    exact w_J5_substring_22 w
  · replace w := w.2 c_8
    refine jw_iload_n (pc' := 16) rfl rfl ?_
    refine jw_iload_n (pc' := 17) rfl rfl ?_
    refine jw_icmp_ne (tgt := 22) (pc' := 20) rfl rfl (fun c_9 => ?_) (fun c_9 => ?_)
    · replace w := w.1 c_9
      refine jw_gen (ls' := [some (vR 64 r0), some (vI x1), some (vI x2), none, none]) (st' := []) (And.intro (Or.inl rfl) (And.intro (Or.inl rfl) (And.intro (Or.inl rfl) (trivial)))) (trivial) ?_
      exact w_J5_substring_22 w
    · replace w := w.2 c_9
      refine jw_aload_n (pc' := 21) rfl rfl ?_
      exact jw_areturn rfl rfl rfl rfl rfl w
def T_J5_substring (D : JD) (d : Nat) (Q : JO → JH → Prop) (r0 : Nat) (x1 : Int32) (x2 : Int32) (h : JH) : Prop := W_J5_substring_0 D d Q r0 x1 x2 h
theorem t_J5_substring {D : JD} {d : Nat} {Q : JO → JH → Prop} {r0 : Nat} {x1 : Int32} {x2 : Int32} {h : JH} (w : T_J5_substring D d Q r0 x1 x2 h) : cJ5_substring D (d + 1) r0 x1 x2 h Q := by
  unfold T_J5_substring at w
  unfold cJ5_substring
  exact w_J5_substring_0 w
def W_J5_indexOf_45 (D : JD) (d : Nat) (Q : JO → JH → Prop) (s0 : Int32) (h : JH) : Prop :=
  Q (.inl (some (vI s0))) h
theorem w_J5_indexOf_45 {D : JD} {d : Nat} {Q : JO → JH → Prop} {s0 : Int32} {h : JH} (w : W_J5_indexOf_45 D d Q s0 h) : JW D (d + 1) mJ5_indexOf 45 [none, none, none] [vI s0] h Q := by
  unfold W_J5_indexOf_45 at w
  exact jw_ireturn rfl rfl (rfl) w
def W_J5_indexOf_0 (D : JD) (d : Nat) (Q : JO → JH → Prop) (r0 : Nat) (r1 : Nat) (h : JH) : Prop :=
  r0 ≠ 0 ∧ (cJ5_coder D d r0 h (pI D h (fun v_4 h_2 => r1 ≠ 0 ∧ (cJ5_coder D d r1 h_2 (pI D h_2 (fun v_8 h_6 => (¬ v_4 = v_8 → (¬ v_4 = 0 → cJ10_indexOfLatin1 D d (jfr h_6 75 r0) (jfr h_6 75 r1) h_6 (pI D h_6 (fun v_13 h_11 => Q (.inl (some (vI v_13))) h_11) (jth Q))) ∧ (v_4 = 0 → Q (.inl (some (vI (-1 : Int32)))) h_6)) ∧ (v_4 = v_8 → cJ5_isLatin1 D d r0 h_6 (pI D h_6 (fun v_16 h_14 => (v_16 = 0 → cJ10_indexOf D d (jfr h_14 75 r0) (jfr h_14 75 r1) h_14 (pI D h_14 (fun v_20 h_18 => W_J5_indexOf_45 D d Q v_20 h_18) (jth Q))) ∧ (¬ v_16 = 0 → cJ8_indexOf D d (jfr h_14 75 r0) (jfr h_14 75 r1) h_14 (pI D h_14 (fun v_23 h_21 => W_J5_indexOf_45 D d Q v_23 h_21) (jth Q)))) (jth Q)))) (jth Q)))) (jth Q)))
theorem w_J5_indexOf_0 {D : JD} {d : Nat} {Q : JO → JH → Prop} {r0 : Nat} {r1 : Nat} {h : JH} (w : W_J5_indexOf_0 D d Q r0 r1 h) : JW D (d + 1) mJ5_indexOf 0 [some (vR 64 r0), some (vR 64 r1), none] [] h Q := by
  unfold W_J5_indexOf_0 at w
  refine jw_aload_n (pc' := 1) rfl rfl ?_
  obtain ⟨g_1, w⟩ := w
  refine jw_cI (st := []) (sa := [vR 64 r0]) okJ5_coder rfl rfl rfl rfl rfl rfl (jstp_virtual (sa := []) (st := []) (k := 0) rfl rfl sJ5_coder okJ5_coder g_1 (one64.k g_1) rfl rfl) w (fun v_4 h_2 _ _ w => ?_)
  refine jw_istore_n (pc' := 5) (ls' := [some (vR 64 r0), some (vR 64 r1), some (vI v_4)]) rfl (by decide) rfl ?_
  refine jw_iload_n (pc' := 6) rfl rfl ?_
  refine jw_aload_n (pc' := 7) rfl rfl ?_
  obtain ⟨g_5, w⟩ := w
  refine jw_cI (st := [vI v_4]) (sa := [vR 64 r1]) okJ5_coder rfl rfl rfl rfl rfl rfl (jstp_virtual (sa := []) (st := [vI v_4]) (k := 0) rfl rfl sJ5_coder okJ5_coder g_5 (one64.k g_5) rfl rfl) w (fun v_8 h_6 _ _ w => ?_)
  refine jw_icmp_ne (tgt := 46) (pc' := 13) rfl rfl (fun c_9 => ?_) (fun c_9 => ?_)
  · replace w := w.1 c_9
    refine jw_iload_n (pc' := 47) rfl rfl ?_
    refine jw_if_ne (tgt := 52) (pc' := 50) rfl rfl (fun c_10 => ?_) (fun c_10 => ?_)
    · replace w := w.1 c_10
      refine jw_aload_n (pc' := 53) rfl rfl ?_
      refine jw_getR (pc' := 56) (F := 75) (t' := 67) rfl rfl rfl rfl rfl g_1 ?_
      refine jw_aload_n (pc' := 57) rfl rfl ?_
      refine jw_getR (pc' := 60) (F := 75) (t' := 67) rfl rfl rfl rfl rfl g_5 ?_
      refine jw_cI (st := []) (sa := [vR 67 (jfr h_6 75 r0), vR 67 (jfr h_6 75 r1)]) okJ10_indexOfLatin1 rfl rfl rfl rfl rfl rfl (jstp_static (sa := [vR 67 (jfr h_6 75 r0), vR 67 (jfr h_6 75 r1)]) (st := []) rfl rfl sJ10_indexOfLatin1 okJ10_indexOfLatin1 rfl rfl) w (fun v_13 h_11 _ _ w => ?_)
      exact jw_ireturn rfl rfl (rfl) w
    · replace w := w.2 c_10
      refine jw_iconst (pc' := 51) (x := (-1 : Int32)) rfl rfl ?_
      exact jw_ireturn rfl rfl (rfl) w
  · replace w := w.2 c_9
    refine jw_aload_n (pc' := 14) rfl rfl ?_
    refine jw_cI (st := []) (sa := [vR 64 r0]) okJ5_isLatin1 rfl rfl rfl rfl rfl rfl (jstp_virtual (sa := []) (st := []) (k := 0) rfl rfl sJ5_isLatin1 okJ5_isLatin1 g_1 (one64.k g_1) rfl rfl) w (fun v_16 h_14 _ _ w => ?_)
    refine jw_if_eq (tgt := 34) (pc' := 20) rfl rfl (fun c_17 => ?_) (fun c_17 => ?_)
    · replace w := w.1 c_17
      refine jw_aload_n (pc' := 35) rfl rfl ?_
      refine jw_getR (pc' := 38) (F := 75) (t' := 67) rfl rfl rfl rfl rfl g_1 ?_
      refine jw_aload_n (pc' := 39) rfl rfl ?_
      refine jw_getR (pc' := 42) (F := 75) (t' := 67) rfl rfl rfl rfl rfl g_5 ?_
      refine jw_cI (st := []) (sa := [vR 67 (jfr h_14 75 r0), vR 67 (jfr h_14 75 r1)]) okJ10_indexOf rfl rfl rfl rfl rfl rfl (jstp_static (sa := [vR 67 (jfr h_14 75 r0), vR 67 (jfr h_14 75 r1)]) (st := []) rfl rfl sJ10_indexOf okJ10_indexOf rfl rfl) w (fun v_20 h_18 _ _ w => ?_)
      refine jw_gen (ls' := [none, none, none]) (st' := [vI v_20]) (trivial) (And.intro (Or.inl rfl) (trivial)) ?_
      exact w_J5_indexOf_45 w
    · replace w := w.2 c_17
      refine jw_aload_n (pc' := 21) rfl rfl ?_
      refine jw_getR (pc' := 24) (F := 75) (t' := 67) rfl rfl rfl rfl rfl g_1 ?_
      refine jw_aload_n (pc' := 25) rfl rfl ?_
      refine jw_getR (pc' := 28) (F := 75) (t' := 67) rfl rfl rfl rfl rfl g_5 ?_
      refine jw_cI (st := []) (sa := [vR 67 (jfr h_14 75 r0), vR 67 (jfr h_14 75 r1)]) okJ8_indexOf rfl rfl rfl rfl rfl rfl (jstp_static (sa := [vR 67 (jfr h_14 75 r0), vR 67 (jfr h_14 75 r1)]) (st := []) rfl rfl sJ8_indexOf okJ8_indexOf rfl rfl) w (fun v_23 h_21 _ _ w => ?_)
      refine jw_goto (pc' := 45) rfl rfl ?_
      refine jw_gen (ls' := [none, none, none]) (st' := [vI v_23]) (trivial) (And.intro (Or.inl rfl) (trivial)) ?_
      exact w_J5_indexOf_45 w
def T_J5_indexOf (D : JD) (d : Nat) (Q : JO → JH → Prop) (r0 : Nat) (r1 : Nat) (h : JH) : Prop := W_J5_indexOf_0 D d Q r0 r1 h
theorem t_J5_indexOf {D : JD} {d : Nat} {Q : JO → JH → Prop} {r0 : Nat} {r1 : Nat} {h : JH} (w : T_J5_indexOf D d Q r0 r1 h) : cJ5_indexOf D (d + 1) r0 r1 h Q := by
  unfold T_J5_indexOf at w
  unfold cJ5_indexOf
  exact w_J5_indexOf_0 w
def W_J5_indexOf_2_0 (D : JD) (d : Nat) (Q : JO → JH → Prop) (r0 : Nat) (x1 : Int32) (h : JH) : Prop :=
  r0 ≠ 0 ∧ (cJ5_indexOf_3 D d r0 x1 (0 : Int32) h (pI D h (fun v_4 h_2 => Q (.inl (some (vI v_4))) h_2) (jth Q)))
theorem w_J5_indexOf_2_0 {D : JD} {d : Nat} {Q : JO → JH → Prop} {r0 : Nat} {x1 : Int32} {h : JH} (w : W_J5_indexOf_2_0 D d Q r0 x1 h) : JW D (d + 1) mJ5_indexOf_2 0 [some (vR 64 r0), some (vI x1)] [] h Q := by
  unfold W_J5_indexOf_2_0 at w
  refine jw_aload_n (pc' := 1) rfl rfl ?_
  refine jw_iload_n (pc' := 2) rfl rfl ?_
  refine jw_iconst (pc' := 3) (x := (0 : Int32)) rfl rfl ?_
  obtain ⟨g_1, w⟩ := w
  refine jw_cI (st := []) (sa := [vR 64 r0, vI x1, vI (0 : Int32)]) okJ5_indexOf_3 rfl rfl rfl rfl rfl rfl (jstp_virtual (sa := [vI x1, vI (0 : Int32)]) (st := []) (k := 0) rfl rfl sJ5_indexOf_3 okJ5_indexOf_3 g_1 (one64.k g_1) rfl rfl) w (fun v_4 h_2 _ _ w => ?_)
  exact jw_ireturn rfl rfl (rfl) w
def T_J5_indexOf_2 (D : JD) (d : Nat) (Q : JO → JH → Prop) (r0 : Nat) (x1 : Int32) (h : JH) : Prop := W_J5_indexOf_2_0 D d Q r0 x1 h
theorem t_J5_indexOf_2 {D : JD} {d : Nat} {Q : JO → JH → Prop} {r0 : Nat} {x1 : Int32} {h : JH} (w : T_J5_indexOf_2 D d Q r0 x1 h) : cJ5_indexOf_2 D (d + 1) r0 x1 h Q := by
  unfold T_J5_indexOf_2 at w
  unfold cJ5_indexOf_2
  exact w_J5_indexOf_2_0 w
def W_J5_indexOf_3_36 (D : JD) (d : Nat) (Q : JO → JH → Prop) (s0 : Int32) (h : JH) : Prop :=
  Q (.inl (some (vI s0))) h
theorem w_J5_indexOf_3_36 {D : JD} {d : Nat} {Q : JO → JH → Prop} {s0 : Int32} {h : JH} (w : W_J5_indexOf_3_36 D d Q s0 h) : JW D (d + 1) mJ5_indexOf_3 36 [none, none, none] [vI s0] h Q := by
  unfold W_J5_indexOf_3_36 at w
  exact jw_ireturn rfl rfl (rfl) w
def W_J5_indexOf_3_0 (D : JD) (d : Nat) (Q : JO → JH → Prop) (r0 : Nat) (x1 : Int32) (x2 : Int32) (h : JH) : Prop :=
  r0 ≠ 0 ∧ (cJ5_isLatin1 D d r0 h (pI D h (fun v_4 h_2 => (v_4 = 0 → cJ5_length D d r0 h_2 (pI D h_2 (fun v_8 h_6 => cJ10_indexOf_2 D d (jfr h_2 75 r0) x1 x2 v_8 h_6 (pI D h_6 (fun v_11 h_9 => W_J5_indexOf_3_36 D d Q v_11 h_9) (jth Q))) (jth Q))) ∧ (¬ v_4 = 0 → cJ5_length D d r0 h_2 (pI D h_2 (fun v_14 h_12 => cJ8_indexOf_3 D d (jfr h_2 75 r0) x1 x2 v_14 h_12 (pI D h_12 (fun v_17 h_15 => W_J5_indexOf_3_36 D d Q v_17 h_15) (jth Q))) (jth Q)))) (jth Q)))
theorem w_J5_indexOf_3_0 {D : JD} {d : Nat} {Q : JO → JH → Prop} {r0 : Nat} {x1 : Int32} {x2 : Int32} {h : JH} (w : W_J5_indexOf_3_0 D d Q r0 x1 x2 h) : JW D (d + 1) mJ5_indexOf_3 0 [some (vR 64 r0), some (vI x1), some (vI x2)] [] h Q := by
  unfold W_J5_indexOf_3_0 at w
  refine jw_aload_n (pc' := 1) rfl rfl ?_
  obtain ⟨g_1, w⟩ := w
  refine jw_cI (st := []) (sa := [vR 64 r0]) okJ5_isLatin1 rfl rfl rfl rfl rfl rfl (jstp_virtual (sa := []) (st := []) (k := 0) rfl rfl sJ5_isLatin1 okJ5_isLatin1 g_1 (one64.k g_1) rfl rfl) w (fun v_4 h_2 _ _ w => ?_)
  refine jw_if_eq (tgt := 23) (pc' := 7) rfl rfl (fun c_5 => ?_) (fun c_5 => ?_)
  · replace w := w.1 c_5
    refine jw_aload_n (pc' := 24) rfl rfl ?_
    refine jw_getR (pc' := 27) (F := 75) (t' := 67) rfl rfl rfl rfl rfl g_1 ?_
    refine jw_iload_n (pc' := 28) rfl rfl ?_
    refine jw_iload_n (pc' := 29) rfl rfl ?_
    refine jw_aload_n (pc' := 30) rfl rfl ?_
    refine jw_cI (st := [vI x2, vI x1, vR 67 (jfr h_2 75 r0)]) (sa := [vR 64 r0]) okJ5_length rfl rfl rfl rfl rfl rfl (jstp_virtual (sa := []) (st := [vI x2, vI x1, vR 67 (jfr h_2 75 r0)]) (k := 0) rfl rfl sJ5_length okJ5_length g_1 (one64.k g_1) rfl rfl) w (fun v_8 h_6 _ _ w => ?_)
    refine jw_cI (st := []) (sa := [vR 67 (jfr h_2 75 r0), vI x1, vI x2, vI v_8]) okJ10_indexOf_2 rfl rfl rfl rfl rfl rfl (jstp_static (sa := [vR 67 (jfr h_2 75 r0), vI x1, vI x2, vI v_8]) (st := []) rfl rfl sJ10_indexOf_2 okJ10_indexOf_2 rfl rfl) w (fun v_11 h_9 _ _ w => ?_)
    refine jw_gen (ls' := [none, none, none]) (st' := [vI v_11]) (trivial) (And.intro (Or.inl rfl) (trivial)) ?_
    exact w_J5_indexOf_3_36 w
  · replace w := w.2 c_5
    refine jw_aload_n (pc' := 8) rfl rfl ?_
    refine jw_getR (pc' := 11) (F := 75) (t' := 67) rfl rfl rfl rfl rfl g_1 ?_
    refine jw_iload_n (pc' := 12) rfl rfl ?_
    refine jw_iload_n (pc' := 13) rfl rfl ?_
    refine jw_aload_n (pc' := 14) rfl rfl ?_
    refine jw_cI (st := [vI x2, vI x1, vR 67 (jfr h_2 75 r0)]) (sa := [vR 64 r0]) okJ5_length rfl rfl rfl rfl rfl rfl (jstp_virtual (sa := []) (st := [vI x2, vI x1, vR 67 (jfr h_2 75 r0)]) (k := 0) rfl rfl sJ5_length okJ5_length g_1 (one64.k g_1) rfl rfl) w (fun v_14 h_12 _ _ w => ?_)
    refine jw_cI (st := []) (sa := [vR 67 (jfr h_2 75 r0), vI x1, vI x2, vI v_14]) okJ8_indexOf_3 rfl rfl rfl rfl rfl rfl (jstp_static (sa := [vR 67 (jfr h_2 75 r0), vI x1, vI x2, vI v_14]) (st := []) rfl rfl sJ8_indexOf_3 okJ8_indexOf_3 rfl rfl) w (fun v_17 h_15 _ _ w => ?_)
    refine jw_goto (pc' := 36) rfl rfl ?_
    refine jw_gen (ls' := [none, none, none]) (st' := [vI v_17]) (trivial) (And.intro (Or.inl rfl) (trivial)) ?_
    exact w_J5_indexOf_3_36 w
def T_J5_indexOf_3 (D : JD) (d : Nat) (Q : JO → JH → Prop) (r0 : Nat) (x1 : Int32) (x2 : Int32) (h : JH) : Prop := W_J5_indexOf_3_0 D d Q r0 x1 x2 h
theorem t_J5_indexOf_3 {D : JD} {d : Nat} {Q : JO → JH → Prop} {r0 : Nat} {x1 : Int32} {x2 : Int32} {h : JH} (w : T_J5_indexOf_3 D d Q r0 x1 x2 h) : cJ5_indexOf_3 D (d + 1) r0 x1 x2 h Q := by
  unfold T_J5_indexOf_3 at w
  unfold cJ5_indexOf_3
  exact w_J5_indexOf_3_0 w
def W_J6_init_0 (D : JD) (d : Nat) (Q : JO → JH → Prop) (r0 : Nat) (r1 : Nat) (h : JH) : Prop :=
  r0 ≠ 0 ∧ (cJ2_init_2 D d r0 r1 h (pV D h (fun h_2 => Q (.inl none) h_2) (jth Q)))
theorem w_J6_init_0 {D : JD} {d : Nat} {Q : JO → JH → Prop} {r0 : Nat} {r1 : Nat} {h : JH} (w : W_J6_init_0 D d Q r0 r1 h) : JW D (d + 1) mJ6_init 0 [some (vR 13 r0), some (vR 64 r1)] [] h Q := by
  unfold W_J6_init_0 at w
  refine jw_aload_n (pc' := 1) rfl rfl ?_
  refine jw_aload_n (pc' := 2) rfl rfl ?_
  obtain ⟨g_1, w⟩ := w
  refine jw_cV (st := []) (sa := [vR 13 r0, vR 64 r1]) okJ2_init_2 rfl rfl rfl rfl rfl rfl (jstp_init (sa := [vR 64 r1]) (st := []) rfl rfl sJ2_init_2 okJ2_init_2 (lw_g (jtb_mem (c := 4) (i := 140) rfl) rfl) g_1 rfl rfl) w (fun h_2 _ _ w => ?_)
  exact jw_return rfl rfl w
def T_J6_init (D : JD) (d : Nat) (Q : JO → JH → Prop) (r0 : Nat) (r1 : Nat) (h : JH) : Prop := W_J6_init_0 D d Q r0 r1 h
theorem t_J6_init {D : JD} {d : Nat} {Q : JO → JH → Prop} {r0 : Nat} {r1 : Nat} {h : JH} (w : T_J6_init D d Q r0 r1 h) : cJ6_init D (d + 1) r0 r1 h Q := by
  unfold T_J6_init at w
  unfold cJ6_init
  exact w_J6_init_0 w
def W_J6_init_2_0 (D : JD) (d : Nat) (Q : JO → JH → Prop) (r0 : Nat) (h : JH) : Prop :=
  r0 ≠ 0 ∧ (cJ2_init D d r0 h (pV D h (fun h_2 => Q (.inl none) h_2) (jth Q)))
theorem w_J6_init_2_0 {D : JD} {d : Nat} {Q : JO → JH → Prop} {r0 : Nat} {h : JH} (w : W_J6_init_2_0 D d Q r0 h) : JW D (d + 1) mJ6_init_2 0 [some (vR 13 r0)] [] h Q := by
  unfold W_J6_init_2_0 at w
  refine jw_aload_n (pc' := 1) rfl rfl ?_
  obtain ⟨g_1, w⟩ := w
  refine jw_cV (st := []) (sa := [vR 13 r0]) okJ2_init rfl rfl rfl rfl rfl rfl (jstp_init (sa := []) (st := []) rfl rfl sJ2_init okJ2_init (lw_g (jtb_mem (c := 3) (i := 67) rfl) rfl) g_1 rfl rfl) w (fun h_2 _ _ w => ?_)
  exact jw_return rfl rfl w
def T_J6_init_2 (D : JD) (d : Nat) (Q : JO → JH → Prop) (r0 : Nat) (h : JH) : Prop := W_J6_init_2_0 D d Q r0 h
theorem t_J6_init_2 {D : JD} {d : Nat} {Q : JO → JH → Prop} {r0 : Nat} {h : JH} (w : T_J6_init_2 D d Q r0 h) : cJ6_init_2 D (d + 1) r0 h Q := by
  unfold T_J6_init_2 at w
  unfold cJ6_init_2
  exact w_J6_init_2_0 w
def W_J7_init_0 (D : JD) (d : Nat) (Q : JO → JH → Prop) (r0 : Nat) (h : JH) : Prop :=
  r0 ≠ 0 ∧ (cJ2_init D d r0 h (pV D h (fun h_2 => Q (.inl none) h_2) (jth Q)))
theorem w_J7_init_0 {D : JD} {d : Nat} {Q : JO → JH → Prop} {r0 : Nat} {h : JH} (w : W_J7_init_0 D d Q r0 h) : JW D (d + 1) mJ7_init 0 [some (vR 40 r0)] [] h Q := by
  unfold W_J7_init_0 at w
  refine jw_aload_n (pc' := 1) rfl rfl ?_
  obtain ⟨g_1, w⟩ := w
  refine jw_cV (st := []) (sa := [vR 40 r0]) okJ2_init rfl rfl rfl rfl rfl rfl (jstp_init (sa := []) (st := []) rfl rfl sJ2_init okJ2_init (lw_g (jtb_mem (c := 3) (i := 67) rfl) rfl) g_1 rfl rfl) w (fun h_2 _ _ w => ?_)
  exact jw_return rfl rfl w
def T_J7_init (D : JD) (d : Nat) (Q : JO → JH → Prop) (r0 : Nat) (h : JH) : Prop := W_J7_init_0 D d Q r0 h
theorem t_J7_init {D : JD} {d : Nat} {Q : JO → JH → Prop} {r0 : Nat} {h : JH} (w : T_J7_init D d Q r0 h) : cJ7_init D (d + 1) r0 h Q := by
  unfold T_J7_init at w
  unfold cJ7_init
  exact w_J7_init_0 w
def W_J8_canEncode_12 (D : JD) (d : Nat) (Q : JO → JH → Prop) (s0 : Int32) (h : JH) : Prop :=
  jbo s0 ∧ (Q (.inl (some (vI s0))) h)
theorem w_J8_canEncode_12 {D : JD} {d : Nat} {Q : JO → JH → Prop} {s0 : Int32} {h : JH} (w : W_J8_canEncode_12 D d Q s0 h) : JW D (d + 1) mJ8_canEncode 12 [none] [vI s0] h Q := by
  unfold W_J8_canEncode_12 at w
  obtain ⟨g_1, w⟩ := w
  exact jw_ireturn rfl rfl (g_1.nr) w
def W_J8_canEncode_0 (D : JD) (d : Nat) (Q : JO → JH → Prop) (x0 : Int32) (h : JH) : Prop :=
  ((255 : Int32) < x0 → W_J8_canEncode_12 D d Q (0 : Int32) h) ∧ (¬ (255 : Int32) < x0 → W_J8_canEncode_12 D d Q (1 : Int32) h)
theorem w_J8_canEncode_0 {D : JD} {d : Nat} {Q : JO → JH → Prop} {x0 : Int32} {h : JH} (w : W_J8_canEncode_0 D d Q x0 h) : JW D (d + 1) mJ8_canEncode 0 [some (vI x0)] [] h Q := by
  unfold W_J8_canEncode_0 at w
  refine jw_iload_n (pc' := 1) rfl rfl ?_
  refine jw_sipush (pc' := 4) (x := (255 : Int32)) rfl rfl ?_
  refine jw_icmp_gt (tgt := 11) (pc' := 7) rfl rfl (fun c_1 => ?_) (fun c_1 => ?_)
  · replace w := w.1 c_1
    refine jw_iconst (pc' := 12) (x := (0 : Int32)) rfl rfl ?_
    refine jw_gen (ls' := [none]) (st' := [vI (0 : Int32)]) (trivial) (And.intro (Or.inl rfl) (trivial)) ?_
    exact w_J8_canEncode_12 w
  · replace w := w.2 c_1
    refine jw_iconst (pc' := 8) (x := (1 : Int32)) rfl rfl ?_
    refine jw_goto (pc' := 12) rfl rfl ?_
    refine jw_gen (ls' := [none]) (st' := [vI (1 : Int32)]) (trivial) (And.intro (Or.inl rfl) (trivial)) ?_
    exact w_J8_canEncode_12 w
def T_J8_canEncode (D : JD) (d : Nat) (Q : JO → JH → Prop) (x0 : Int32) (h : JH) : Prop := W_J8_canEncode_0 D d Q x0 h
theorem t_J8_canEncode {D : JD} {d : Nat} {Q : JO → JH → Prop} {x0 : Int32} {h : JH} (w : T_J8_canEncode D d Q x0 h) : cJ8_canEncode D (d + 1) x0 h Q := by
  unfold T_J8_canEncode at w
  unfold cJ8_canEncode
  exact w_J8_canEncode_0 w
def W_J8_inflate_0 (D : JD) (d : Nat) (Q : JO → JH → Prop) (r0 : Nat) (x1 : Int32) (r2 : Nat) (x3 : Int32) (x4 : Int32) (h : JH) : Prop :=
  cJ10_inflate D d r0 x1 r2 x3 x4 h (pV D h (fun h_1 => Q (.inl none) h_1) (jth Q))
theorem w_J8_inflate_0 {D : JD} {d : Nat} {Q : JO → JH → Prop} {r0 : Nat} {x1 : Int32} {r2 : Nat} {x3 : Int32} {x4 : Int32} {h : JH} (w : W_J8_inflate_0 D d Q r0 x1 r2 x3 x4 h) : JW D (d + 1) mJ8_inflate 0 [some (vR 67 r0), some (vI x1), some (vR 67 r2), some (vI x3), some (vI x4)] [] h Q := by
  unfold W_J8_inflate_0 at w
  refine jw_aload_n (pc' := 1) rfl rfl ?_
  refine jw_iload_n (pc' := 2) rfl rfl ?_
  refine jw_aload_n (pc' := 3) rfl rfl ?_
  refine jw_iload_n (pc' := 4) rfl rfl ?_
  refine jw_iload (pc' := 6) rfl rfl ?_
  refine jw_cV (st := []) (sa := [vR 67 r0, vI x1, vR 67 r2, vI x3, vI x4]) okJ10_inflate rfl rfl rfl rfl rfl rfl (jstp_static (sa := [vR 67 r0, vI x1, vR 67 r2, vI x3, vI x4]) (st := []) rfl rfl sJ10_inflate okJ10_inflate rfl rfl) w (fun h_1 _ _ w => ?_)
  exact jw_return rfl rfl w
def T_J8_inflate (D : JD) (d : Nat) (Q : JO → JH → Prop) (r0 : Nat) (x1 : Int32) (r2 : Nat) (x3 : Int32) (x4 : Int32) (h : JH) : Prop := W_J8_inflate_0 D d Q r0 x1 r2 x3 x4 h
theorem t_J8_inflate {D : JD} {d : Nat} {Q : JO → JH → Prop} {r0 : Nat} {x1 : Int32} {r2 : Nat} {x3 : Int32} {x4 : Int32} {h : JH} (w : T_J8_inflate D d Q r0 x1 r2 x3 x4 h) : cJ8_inflate D (d + 1) r0 x1 r2 x3 x4 h Q := by
  unfold T_J8_inflate at w
  unfold cJ8_inflate
  exact w_J8_inflate_0 w
def W_J8_equals_9 (D : JD) (d : Nat) (Q : JO → JH → Prop) (K9 : Nat → Nat → Int32 → JH → Prop) (r0 : Nat) (r1 : Nat) (x2 : Int32) (h : JH) : Prop :=
  r0 ≠ 0 ∧ (((nI (jln h r0)) ≤ x2 → Q (.inl (some (vI (1 : Int32)))) h) ∧ (¬ (nI (jln h r0)) ≤ x2 → jin x2 (jln h r0) ∧ (r1 ≠ 0 ∧ jin x2 (jln h r1) ∧ (((jai h r0 (ixn x2)) = (jai h r1 (ixn x2)) → K9 r0 r1 (x2 + (1 : Int32)) h) ∧ (¬ (jai h r0 (ixn x2)) = (jai h r1 (ixn x2)) → Q (.inl (some (vI (0 : Int32)))) h)))))
theorem w_J8_equals_9 {D : JD} {d : Nat} {Q : JO → JH → Prop} {K9 : Nat → Nat → Int32 → JH → Prop} {r0 : Nat} {r1 : Nat} {x2 : Int32} {h : JH} (hK9 : ∀ (r0 : Nat) (r1 : Nat) (x2 : Int32) (h : JH), K9 r0 r1 x2 h → JW D (d + 1) mJ8_equals 9 [some (vR 67 r0), some (vR 67 r1), some (vI x2)] [] h Q) (w : W_J8_equals_9 D d Q K9 r0 r1 x2 h) : JW D (d + 1) mJ8_equals 9 [some (vR 67 r0), some (vR 67 r1), some (vI x2)] [] h Q := by
  unfold W_J8_equals_9 at w
  refine jw_iload_n (pc' := 10) rfl rfl ?_
  refine jw_aload_n (pc' := 11) rfl rfl ?_
  obtain ⟨g_1, w⟩ := w
  refine jw_alen (pc' := 12) rfl rfl g_1 ?_
  refine jw_icmp_ge (tgt := 32) (pc' := 15) rfl rfl (fun c_2 => ?_) (fun c_2 => ?_)
  · replace w := w.1 c_2
    refine jw_iconst (pc' := 33) (x := (1 : Int32)) rfl rfl ?_
    exact jw_ireturn rfl rfl (rfl) w
  · replace w := w.2 c_2
    refine jw_aload_n (pc' := 16) rfl rfl ?_
    refine jw_iload_n (pc' := 17) rfl rfl ?_
    obtain ⟨g_3, w⟩ := w
    refine jw_bald (pc' := 18) rfl rfl rfl rfl g_1 g_3.ix g_3.2 ?_
    refine jw_aload_n (pc' := 19) rfl rfl ?_
    refine jw_iload_n (pc' := 20) rfl rfl ?_
    obtain ⟨g_4, w⟩ := w
    obtain ⟨g_5, w⟩ := w
    refine jw_bald (pc' := 21) rfl rfl rfl rfl g_4 g_5.ix g_5.2 ?_
    refine jw_icmp_eq (tgt := 26) (pc' := 24) rfl rfl (fun c_6 => ?_) (fun c_6 => ?_)
    · replace w := w.1 c_6
      refine jw_iinc (pc' := 29) (y := x2 + (1 : Int32)) (ls' := [some (vR 67 r0), some (vR 67 r1), some (vI (x2 + (1 : Int32)))]) rfl (by decide) rfl rfl rfl ?_
      refine jw_goto (pc' := 9) rfl rfl ?_
      exact hK9 _ _ _ _ w
    · replace w := w.2 c_6
      refine jw_iconst (pc' := 25) (x := (0 : Int32)) rfl rfl ?_
      exact jw_ireturn rfl rfl (rfl) w
def L_J8_equals_9 (D : JD) (d : Nat) (Q : JO → JH → Prop) : Nat → Nat → Nat → Int32 → JH → Prop
  | 0 => fun _ _ _ _ => False
  | n + 1 => fun r0 r1 x2 h => W_J8_equals_9 D d Q (L_J8_equals_9 D d Q n) r0 r1 x2 h
theorem l_J8_equals_9 {D : JD} {d : Nat} {Q : JO → JH → Prop} : ∀ (n : Nat) (r0 : Nat) (r1 : Nat) (x2 : Int32) (h : JH), L_J8_equals_9 D d Q n r0 r1 x2 h → JW D (d + 1) mJ8_equals 9 [some (vR 67 r0), some (vR 67 r1), some (vI x2)] [] h Q := by
  intro n
  induction n with
  | zero => intro _ _ _ _ w; exact w.elim
  | succ n ih => intro _ _ _ h w; exact w_J8_equals_9 ih w
def W_J8_equals_0 (D : JD) (d : Nat) (Q : JO → JH → Prop) (r0 : Nat) (r1 : Nat) (h : JH) : Prop :=
  r0 ≠ 0 ∧ (r1 ≠ 0 ∧ ((¬ (nI (jln h r0)) = (nI (jln h r1)) → Q (.inl (some (vI (0 : Int32)))) h) ∧ ((nI (jln h r0)) = (nI (jln h r1)) → ∃ n, L_J8_equals_9 D d Q n r0 r1 (0 : Int32) h)))
theorem w_J8_equals_0 {D : JD} {d : Nat} {Q : JO → JH → Prop} {r0 : Nat} {r1 : Nat} {h : JH} (w : W_J8_equals_0 D d Q r0 r1 h) : JW D (d + 1) mJ8_equals 0 [some (vR 67 r0), some (vR 67 r1), none] [] h Q := by
  unfold W_J8_equals_0 at w
  refine jw_aload_n (pc' := 1) rfl rfl ?_
  obtain ⟨g_1, w⟩ := w
  refine jw_alen (pc' := 2) rfl rfl g_1 ?_
  refine jw_aload_n (pc' := 3) rfl rfl ?_
  obtain ⟨g_2, w⟩ := w
  refine jw_alen (pc' := 4) rfl rfl g_2 ?_
  refine jw_icmp_ne (tgt := 34) (pc' := 7) rfl rfl (fun c_3 => ?_) (fun c_3 => ?_)
  · replace w := w.1 c_3
    refine jw_iconst (pc' := 35) (x := (0 : Int32)) rfl rfl ?_
    exact jw_ireturn rfl rfl (rfl) w
  · replace w := w.2 c_3
    refine jw_iconst (pc' := 8) (x := (0 : Int32)) rfl rfl ?_
    refine jw_istore_n (pc' := 9) (ls' := [some (vR 67 r0), some (vR 67 r1), some (vI (0 : Int32))]) rfl (by decide) rfl ?_
    obtain ⟨n, w⟩ := w
    exact l_J8_equals_9 n _ _ _ _ w
def T_J8_equals (D : JD) (d : Nat) (Q : JO → JH → Prop) (r0 : Nat) (r1 : Nat) (h : JH) : Prop := W_J8_equals_0 D d Q r0 r1 h
theorem t_J8_equals {D : JD} {d : Nat} {Q : JO → JH → Prop} {r0 : Nat} {r1 : Nat} {h : JH} (w : T_J8_equals D d Q r0 r1 h) : cJ8_equals D (d + 1) r0 r1 h Q := by
  unfold T_J8_equals at w
  unfold cJ8_equals
  exact w_J8_equals_0 w
def W_J8_charAt_0 (D : JD) (d : Nat) (Q : JO → JH → Prop) (r0 : Nat) (x1 : Int32) (h : JH) : Prop :=
  r0 ≠ 0 ∧ (cJ5_checkIndex D d x1 (nI (jln h r0)) h (pV D h (fun h_2 => jin x1 (jln h_2 r0) ∧ (narrow .char (.int ((Int32.toUInt32 ((jai h_2 r0 (ixn x1)) &&& (255 : Int32)) % 65536).toInt32)) = .int ((Int32.toUInt32 ((jai h_2 r0 (ixn x1)) &&& (255 : Int32)) % 65536).toInt32) ∧ (Q (.inl (some (vI ((Int32.toUInt32 ((jai h_2 r0 (ixn x1)) &&& (255 : Int32)) % 65536).toInt32)))) h_2))) (jth Q)))
theorem w_J8_charAt_0 {D : JD} {d : Nat} {Q : JO → JH → Prop} {r0 : Nat} {x1 : Int32} {h : JH} (w : W_J8_charAt_0 D d Q r0 x1 h) : JW D (d + 1) mJ8_charAt 0 [some (vR 67 r0), some (vI x1)] [] h Q := by
  unfold W_J8_charAt_0 at w
  refine jw_iload_n (pc' := 1) rfl rfl ?_
  refine jw_aload_n (pc' := 2) rfl rfl ?_
  obtain ⟨g_1, w⟩ := w
  refine jw_alen (pc' := 3) rfl rfl g_1 ?_
  refine jw_cV (st := []) (sa := [vI x1, vI (nI (jln h r0))]) okJ5_checkIndex rfl rfl rfl rfl rfl rfl (jstp_static (sa := [vI x1, vI (nI (jln h r0))]) (st := []) rfl rfl sJ5_checkIndex okJ5_checkIndex rfl rfl) w (fun h_2 _ _ w => ?_)
  refine jw_aload_n (pc' := 7) rfl rfl ?_
  refine jw_iload_n (pc' := 8) rfl rfl ?_
  obtain ⟨g_5, w⟩ := w
  refine jw_bald (pc' := 9) rfl rfl rfl rfl g_1 g_5.ix g_5.2 ?_
  refine jw_sipush (pc' := 12) (x := (255 : Int32)) rfl rfl ?_
  refine jw_iand (pc' := 13) rfl ?_
  refine jw_i2c (pc' := 14) rfl ?_
  obtain ⟨g_6, w⟩ := w
  exact jw_ireturn rfl rfl (g_6) w
def T_J8_charAt (D : JD) (d : Nat) (Q : JO → JH → Prop) (r0 : Nat) (x1 : Int32) (h : JH) : Prop := W_J8_charAt_0 D d Q r0 x1 h
theorem t_J8_charAt {D : JD} {d : Nat} {Q : JO → JH → Prop} {r0 : Nat} {x1 : Int32} {h : JH} (w : T_J8_charAt D d Q r0 x1 h) : cJ8_charAt D (d + 1) r0 x1 h Q := by
  unfold T_J8_charAt at w
  unfold cJ8_charAt
  exact w_J8_charAt_0 w
def W_J8_hashCode_51 (D : JD) (d : Nat) (Q : JO → JH → Prop) (s0 : Int32) (h : JH) : Prop :=
  Q (.inl (some (vI s0))) h
theorem w_J8_hashCode_51 {D : JD} {d : Nat} {Q : JO → JH → Prop} {s0 : Int32} {h : JH} (w : W_J8_hashCode_51 D d Q s0 h) : JW D (d + 1) mJ8_hashCode 51 [none] [vI s0] h Q := by
  unfold W_J8_hashCode_51 at w
  exact jw_ireturn rfl rfl (rfl) w
def W_J8_hashCode_0 (D : JD) (d : Nat) (Q : JO → JH → Prop) (r0 : Nat) (h : JH) : Prop :=
  r0 ≠ 0 ∧ (((nI (jln h r0)) = (0 : Int32) → W_J8_hashCode_51 D d Q (0 : Int32) h) ∧ ((nI (jln h r0)) = (1 : Int32) → jin (0 : Int32) (jln h r0) ∧ (W_J8_hashCode_51 D d Q ((jai h r0 (ixn (0 : Int32))) &&& (255 : Int32)) h)) ∧ (¬ (nI (jln h r0)) = (0 : Int32) → ¬ (nI (jln h r0)) = (1 : Int32) → cJ14_vectorizedHashCode D d r0 (0 : Int32) (nI (jln h r0)) (0 : Int32) (4 : Int32) h (pI D h (fun v_7 h_5 => W_J8_hashCode_51 D d Q v_7 h_5) (jth Q))))
theorem w_J8_hashCode_0 {D : JD} {d : Nat} {Q : JO → JH → Prop} {r0 : Nat} {h : JH} (w : W_J8_hashCode_0 D d Q r0 h) : JW D (d + 1) mJ8_hashCode 0 [some (vR 67 r0)] [] h Q := by
  unfold W_J8_hashCode_0 at w
  refine jw_aload_n (pc' := 1) rfl rfl ?_
  obtain ⟨g_1, w⟩ := w
  refine jw_alen (pc' := 2) rfl rfl g_1 ?_
  refine jw_lsw (cs := [((0 : Int32), 28), ((1 : Int32), 32)]) (dt := 42) rfl (by decide +kernel) (by decide +kernel) ?_
  by_cases c_2 : (nI (jln h r0)) = (0 : Int32)
  · rw [jsw_hit c_2]
    replace w := w.1 c_2
    refine jw_iconst (pc' := 29) (x := (0 : Int32)) rfl rfl ?_
    refine jw_goto (pc' := 51) rfl rfl ?_
    refine jw_gen (ls' := [none]) (st' := [vI (0 : Int32)]) (trivial) (And.intro (Or.inl rfl) (trivial)) ?_
    exact w_J8_hashCode_51 w
  · rw [jsw_miss c_2]
    replace w := w.2
    by_cases c_3 : (nI (jln h r0)) = (1 : Int32)
    · rw [jsw_hit c_3]
      replace w := w.1 c_3
      refine jw_aload_n (pc' := 33) rfl rfl ?_
      refine jw_iconst (pc' := 34) (x := (0 : Int32)) rfl rfl ?_
      obtain ⟨g_4, w⟩ := w
      refine jw_bald (pc' := 35) rfl rfl rfl rfl g_1 g_4.ix g_4.2 ?_
      refine jw_sipush (pc' := 38) (x := (255 : Int32)) rfl rfl ?_
      refine jw_iand (pc' := 39) rfl ?_
      refine jw_goto (pc' := 51) rfl rfl ?_
      refine jw_gen (ls' := [none]) (st' := [vI ((jai h r0 (ixn (0 : Int32))) &&& (255 : Int32))]) (trivial) (And.intro (Or.inl rfl) (trivial)) ?_
      exact w_J8_hashCode_51 w
    · rw [jsw_miss c_3]
      replace w := w.2
      rw [jsw_nil]
      replace w := w c_2 c_3
      refine jw_aload_n (pc' := 43) rfl rfl ?_
      refine jw_iconst (pc' := 44) (x := (0 : Int32)) rfl rfl ?_
      refine jw_aload_n (pc' := 45) rfl rfl ?_
      refine jw_alen (pc' := 46) rfl rfl g_1 ?_
      refine jw_iconst (pc' := 47) (x := (0 : Int32)) rfl rfl ?_
      refine jw_iconst (pc' := 48) (x := (4 : Int32)) rfl rfl ?_
      refine jw_cI (st := []) (sa := [vR 67 r0, vI (0 : Int32), vI (nI (jln h r0)), vI (0 : Int32), vI (4 : Int32)]) okJ14_vectorizedHashCode rfl rfl rfl rfl rfl rfl (jstp_static (sa := [vR 67 r0, vI (0 : Int32), vI (nI (jln h r0)), vI (0 : Int32), vI (4 : Int32)]) (st := []) rfl rfl sJ14_vectorizedHashCode okJ14_vectorizedHashCode rfl rfl) w (fun v_7 h_5 _ _ w => ?_)
      refine jw_gen (ls' := [none]) (st' := [vI v_7]) (trivial) (And.intro (Or.inl rfl) (trivial)) ?_
      exact w_J8_hashCode_51 w
def T_J8_hashCode (D : JD) (d : Nat) (Q : JO → JH → Prop) (r0 : Nat) (h : JH) : Prop := W_J8_hashCode_0 D d Q r0 h
theorem t_J8_hashCode {D : JD} {d : Nat} {Q : JO → JH → Prop} {r0 : Nat} {h : JH} (w : T_J8_hashCode D d Q r0 h) : cJ8_hashCode D (d + 1) r0 h Q := by
  unfold T_J8_hashCode at w
  unfold cJ8_hashCode
  exact w_J8_hashCode_0 w
def W_J8_newString_0 (D : JD) (d : Nat) (Q : JO → JH → Prop) (r0 : Nat) (x1 : Int32) (x2 : Int32) (h : JH) : Prop :=
  (¬ x2 = 0 → ∀ (r_2 : Nat) (h_3 : JH), r_2 = jsz h + 1 → h_3 = nwo h 12 4 → (cJ16_copyOfRange D d r0 x1 (x1 + x2) h_3 (pR D h_3 67 (fun v_8 h_6 => cJ5_init_3 D d r_2 v_8 (0 : Int32) h_6 (pV D h_6 (fun h_9 => Q (.inl (some (vR 64 r_2))) h_9) (jth Q))) (jth Q)))) ∧ (x2 = 0 → Q (.inl (some (vR 64 (jcs D 231)))) h)
theorem w_J8_newString_0 {D : JD} {d : Nat} {Q : JO → JH → Prop} {r0 : Nat} {x1 : Int32} {x2 : Int32} {h : JH} (w : W_J8_newString_0 D d Q r0 x1 x2 h) : JW D (d + 1) mJ8_newString 0 [some (vR 67 r0), some (vI x1), some (vI x2)] [] h Q := by
  unfold W_J8_newString_0 at w
  refine jw_iload_n (pc' := 1) rfl rfl ?_
  refine jw_if_ne (tgt := 7) (pc' := 4) rfl rfl (fun c_1 => ?_) (fun c_1 => ?_)
  · replace w := w.1 c_1
    refine jw_new' (pc' := 10) (k := 12) (n := 4) rfl rfl rfl rfl rfl rfl rfl (fun r_2 h_3 e_4 e_5 => ?_)
    replace w := w r_2 h_3 e_4 e_5
    refine jw_dup (pc' := 11) rfl rfl ?_
    refine jw_aload_n (pc' := 12) rfl rfl ?_
    refine jw_iload_n (pc' := 13) rfl rfl ?_
    refine jw_iload_n (pc' := 14) rfl rfl ?_
    refine jw_iload_n (pc' := 15) rfl rfl ?_
    refine jw_iadd (pc' := 16) rfl ?_
    refine jw_cR (st := [vR 12 r_2, vR 12 r_2]) (sa := [vR 67 r0, vI x1, vI (x1 + x2)]) okJ16_copyOfRange rfl rfl rfl rfl rfl rfl (jstp_static (sa := [vR 67 r0, vI x1, vI (x1 + x2)]) (st := [vR 12 r_2, vR 12 r_2]) rfl rfl sJ16_copyOfRange okJ16_copyOfRange rfl rfl) w (fun v_8 h_6 _ _ _ w => ?_)
    refine jw_iconst (pc' := 20) (x := (0 : Int32)) rfl rfl ?_
    refine jw_cV (st := [vR 12 r_2]) (sa := [vR 12 r_2, vR 67 v_8, vI (0 : Int32)]) okJ5_init_3 rfl rfl rfl rfl rfl rfl (jstp_init (sa := [vR 67 v_8, vI (0 : Int32)]) (st := [vR 12 r_2]) rfl rfl sJ5_init_3 okJ5_init_3 (lw_g (jtb_mem (c := 5) (i := 7) rfl) rfl) (jnz e_4) rfl rfl) w (fun h_9 _ _ w => ?_)
    exact jw_areturn rfl rfl rfl rfl rfl w
  · replace w := w.2 c_1
    refine jw_ldcS (pc' := 6) rfl rfl rfl rfl ?_
    exact jw_areturn rfl rfl rfl rfl rfl w
def T_J8_newString (D : JD) (d : Nat) (Q : JO → JH → Prop) (r0 : Nat) (x1 : Int32) (x2 : Int32) (h : JH) : Prop := W_J8_newString_0 D d Q r0 x1 x2 h
theorem t_J8_newString {D : JD} {d : Nat} {Q : JO → JH → Prop} {r0 : Nat} {x1 : Int32} {x2 : Int32} {h : JH} (w : T_J8_newString D d Q r0 x1 x2 h) : cJ8_newString D (d + 1) r0 x1 x2 h Q := by
  unfold T_J8_newString at w
  unfold cJ8_newString
  exact w_J8_newString_0 w
def W_J8_indexOf_0 (D : JD) (d : Nat) (Q : JO → JH → Prop) (r0 : Nat) (r1 : Nat) (h : JH) : Prop :=
  r1 ≠ 0 ∧ ((¬ (nI (jln h r1)) = 0 → r0 ≠ 0 ∧ ((¬ (nI (jln h r0)) = 0 → cJ8_indexOf_2 D d r0 (nI (jln h r0)) r1 (nI (jln h r1)) (0 : Int32) h (pI D h (fun v_7 h_5 => Q (.inl (some (vI v_7))) h_5) (jth Q))) ∧ ((nI (jln h r0)) = 0 → Q (.inl (some (vI (-1 : Int32)))) h))) ∧ ((nI (jln h r1)) = 0 → Q (.inl (some (vI (0 : Int32)))) h))
theorem w_J8_indexOf_0 {D : JD} {d : Nat} {Q : JO → JH → Prop} {r0 : Nat} {r1 : Nat} {h : JH} (w : W_J8_indexOf_0 D d Q r0 r1 h) : JW D (d + 1) mJ8_indexOf 0 [some (vR 67 r0), some (vR 67 r1)] [] h Q := by
  unfold W_J8_indexOf_0 at w
  refine jw_aload_n (pc' := 1) rfl rfl ?_
  obtain ⟨g_1, w⟩ := w
  refine jw_alen (pc' := 2) rfl rfl g_1 ?_
  refine jw_if_ne (tgt := 7) (pc' := 5) rfl rfl (fun c_2 => ?_) (fun c_2 => ?_)
  · replace w := w.1 c_2
    refine jw_aload_n (pc' := 8) rfl rfl ?_
    obtain ⟨g_3, w⟩ := w
    refine jw_alen (pc' := 9) rfl rfl g_3 ?_
    refine jw_if_ne (tgt := 14) (pc' := 12) rfl rfl (fun c_4 => ?_) (fun c_4 => ?_)
    · replace w := w.1 c_4
      refine jw_aload_n (pc' := 15) rfl rfl ?_
      refine jw_aload_n (pc' := 16) rfl rfl ?_
      refine jw_alen (pc' := 17) rfl rfl g_3 ?_
      refine jw_aload_n (pc' := 18) rfl rfl ?_
      refine jw_aload_n (pc' := 19) rfl rfl ?_
      refine jw_alen (pc' := 20) rfl rfl g_1 ?_
      refine jw_iconst (pc' := 21) (x := (0 : Int32)) rfl rfl ?_
      refine jw_cI (st := []) (sa := [vR 67 r0, vI (nI (jln h r0)), vR 67 r1, vI (nI (jln h r1)), vI (0 : Int32)]) okJ8_indexOf_2 rfl rfl rfl rfl rfl rfl (jstp_static (sa := [vR 67 r0, vI (nI (jln h r0)), vR 67 r1, vI (nI (jln h r1)), vI (0 : Int32)]) (st := []) rfl rfl sJ8_indexOf_2 okJ8_indexOf_2 rfl rfl) w (fun v_7 h_5 _ _ w => ?_)
      exact jw_ireturn rfl rfl (rfl) w
    · replace w := w.2 c_4
      refine jw_iconst (pc' := 13) (x := (-1 : Int32)) rfl rfl ?_
      exact jw_ireturn rfl rfl (rfl) w
  · replace w := w.2 c_2
    refine jw_iconst (pc' := 6) (x := (0 : Int32)) rfl rfl ?_
    exact jw_ireturn rfl rfl (rfl) w
def T_J8_indexOf (D : JD) (d : Nat) (Q : JO → JH → Prop) (r0 : Nat) (r1 : Nat) (h : JH) : Prop := W_J8_indexOf_0 D d Q r0 r1 h
theorem t_J8_indexOf {D : JD} {d : Nat} {Q : JO → JH → Prop} {r0 : Nat} {r1 : Nat} {h : JH} (w : T_J8_indexOf D d Q r0 r1 h) : cJ8_indexOf D (d + 1) r0 r1 h Q := by
  unfold T_J8_indexOf at w
  unfold cJ8_indexOf
  exact w_J8_indexOf_0 w
def W_J8_indexOf_2_113 (D : JD) (d : Nat) (Q : JO → JH → Prop) (K14 : Nat → Nat → Int32 → Int32 → Int32 → Int32 → JH → Prop) (r0 : Nat) (r2 : Nat) (x3 : Int32) (x5 : Int32) (x6 : Int32) (x7 : Int32) (h : JH) : Prop :=
  K14 r0 r2 x3 x5 x6 (x7 + (1 : Int32)) h
theorem w_J8_indexOf_2_113 {D : JD} {d : Nat} {Q : JO → JH → Prop} {K14 : Nat → Nat → Int32 → Int32 → Int32 → Int32 → JH → Prop} {r0 : Nat} {r2 : Nat} {x3 : Int32} {x5 : Int32} {x6 : Int32} {x7 : Int32} {h : JH} (hK14 : ∀ (r0 : Nat) (r2 : Nat) (x3 : Int32) (x5 : Int32) (x6 : Int32) (x7 : Int32) (h : JH), K14 r0 r2 x3 x5 x6 x7 h → JW D (d + 1) mJ8_indexOf_2 14 [some (vR 67 r0), none, some (vR 67 r2), some (vI x3), none, some (vI x5), some (vI x6), some (vI x7), none, none, none] [] h Q) (w : W_J8_indexOf_2_113 D d Q K14 r0 r2 x3 x5 x6 x7 h) : JW D (d + 1) mJ8_indexOf_2 113 [some (vR 67 r0), none, some (vR 67 r2), some (vI x3), none, some (vI x5), some (vI x6), some (vI x7), none, none, none] [] h Q := by
  unfold W_J8_indexOf_2_113 at w
  refine jw_iinc (pc' := 116) (y := x7 + (1 : Int32)) (ls' := [some (vR 67 r0), none, some (vR 67 r2), some (vI x3), none, some (vI x5), some (vI x6), some (vI (x7 + (1 : Int32))), none, none, none]) rfl (by decide) rfl rfl rfl ?_
  refine jw_goto (pc' := 14) rfl rfl ?_
  exact hK14 _ _ _ _ _ _ _ w
def W_J8_indexOf_2_103 (D : JD) (d : Nat) (Q : JO → JH → Prop) (K14 : Nat → Nat → Int32 → Int32 → Int32 → Int32 → JH → Prop) (r0 : Nat) (r2 : Nat) (x3 : Int32) (x5 : Int32) (x6 : Int32) (x7 : Int32) (x8 : Int32) (x9 : Int32) (h : JH) : Prop :=
  (¬ x8 = x9 → W_J8_indexOf_2_113 D d Q K14 r0 r2 x3 x5 x6 x7 h) ∧ (x8 = x9 → Q (.inl (some (vI x7))) h)
theorem w_J8_indexOf_2_103 {D : JD} {d : Nat} {Q : JO → JH → Prop} {K14 : Nat → Nat → Int32 → Int32 → Int32 → Int32 → JH → Prop} {r0 : Nat} {r2 : Nat} {x3 : Int32} {x5 : Int32} {x6 : Int32} {x7 : Int32} {x8 : Int32} {x9 : Int32} {h : JH} (hK14 : ∀ (r0 : Nat) (r2 : Nat) (x3 : Int32) (x5 : Int32) (x6 : Int32) (x7 : Int32) (h : JH), K14 r0 r2 x3 x5 x6 x7 h → JW D (d + 1) mJ8_indexOf_2 14 [some (vR 67 r0), none, some (vR 67 r2), some (vI x3), none, some (vI x5), some (vI x6), some (vI x7), none, none, none] [] h Q) (w : W_J8_indexOf_2_103 D d Q K14 r0 r2 x3 x5 x6 x7 x8 x9 h) : JW D (d + 1) mJ8_indexOf_2 103 [some (vR 67 r0), none, some (vR 67 r2), some (vI x3), none, some (vI x5), some (vI x6), some (vI x7), some (vI x8), some (vI x9), none] [] h Q := by
  unfold W_J8_indexOf_2_103 at w
  refine jw_iload (pc' := 105) rfl rfl ?_
  refine jw_iload (pc' := 107) rfl rfl ?_
  refine jw_icmp_ne (tgt := 113) (pc' := 110) rfl rfl (fun c_1 => ?_) (fun c_1 => ?_)
  · replace w := w.1 c_1
    refine jw_gen (ls' := [some (vR 67 r0), none, some (vR 67 r2), some (vI x3), none, some (vI x5), some (vI x6), some (vI x7), none, none, none]) (st' := []) (And.intro (Or.inl rfl) (And.intro (Or.inl rfl) (And.intro (Or.inl rfl) (And.intro (Or.inl rfl) (And.intro (Or.inl rfl) (And.intro (Or.inl rfl) (trivial))))))) (trivial) ?_
    exact w_J8_indexOf_2_113 hK14 w
  · replace w := w.2 c_1
    refine jw_iload (pc' := 112) rfl rfl ?_
    exact jw_ireturn rfl rfl (rfl) w
def W_J8_indexOf_2_76 (D : JD) (d : Nat) (Q : JO → JH → Prop) (K14 : Nat → Nat → Int32 → Int32 → Int32 → Int32 → JH → Prop) (K76 : Nat → Nat → Int32 → Int32 → Int32 → Int32 → Int32 → Int32 → Int32 → JH → Prop) (r0 : Nat) (r2 : Nat) (x3 : Int32) (x5 : Int32) (x6 : Int32) (x7 : Int32) (x8 : Int32) (x9 : Int32) (x10 : Int32) (h : JH) : Prop :=
  (x9 ≤ x8 → W_J8_indexOf_2_103 D d Q K14 r0 r2 x3 x5 x6 x7 x8 x9 h) ∧ (¬ x9 ≤ x8 → r0 ≠ 0 ∧ jin x8 (jln h r0) ∧ (r2 ≠ 0 ∧ jin x10 (jln h r2) ∧ ((¬ (jai h r0 (ixn x8)) = (jai h r2 (ixn x10)) → W_J8_indexOf_2_103 D d Q K14 r0 r2 x3 x5 x6 x7 x8 x9 h) ∧ ((jai h r0 (ixn x8)) = (jai h r2 (ixn x10)) → K76 r0 r2 x3 x5 x6 x7 (x8 + (1 : Int32)) x9 (x10 + (1 : Int32)) h))))
theorem w_J8_indexOf_2_76 {D : JD} {d : Nat} {Q : JO → JH → Prop} {K14 : Nat → Nat → Int32 → Int32 → Int32 → Int32 → JH → Prop} {K76 : Nat → Nat → Int32 → Int32 → Int32 → Int32 → Int32 → Int32 → Int32 → JH → Prop} {r0 : Nat} {r2 : Nat} {x3 : Int32} {x5 : Int32} {x6 : Int32} {x7 : Int32} {x8 : Int32} {x9 : Int32} {x10 : Int32} {h : JH} (hK14 : ∀ (r0 : Nat) (r2 : Nat) (x3 : Int32) (x5 : Int32) (x6 : Int32) (x7 : Int32) (h : JH), K14 r0 r2 x3 x5 x6 x7 h → JW D (d + 1) mJ8_indexOf_2 14 [some (vR 67 r0), none, some (vR 67 r2), some (vI x3), none, some (vI x5), some (vI x6), some (vI x7), none, none, none] [] h Q) (hK76 : ∀ (r0 : Nat) (r2 : Nat) (x3 : Int32) (x5 : Int32) (x6 : Int32) (x7 : Int32) (x8 : Int32) (x9 : Int32) (x10 : Int32) (h : JH), K76 r0 r2 x3 x5 x6 x7 x8 x9 x10 h → JW D (d + 1) mJ8_indexOf_2 76 [some (vR 67 r0), none, some (vR 67 r2), some (vI x3), none, some (vI x5), some (vI x6), some (vI x7), some (vI x8), some (vI x9), some (vI x10)] [] h Q) (w : W_J8_indexOf_2_76 D d Q K14 K76 r0 r2 x3 x5 x6 x7 x8 x9 x10 h) : JW D (d + 1) mJ8_indexOf_2 76 [some (vR 67 r0), none, some (vR 67 r2), some (vI x3), none, some (vI x5), some (vI x6), some (vI x7), some (vI x8), some (vI x9), some (vI x10)] [] h Q := by
  unfold W_J8_indexOf_2_76 at w
  refine jw_iload (pc' := 78) rfl rfl ?_
  refine jw_iload (pc' := 80) rfl rfl ?_
  refine jw_icmp_ge (tgt := 103) (pc' := 83) rfl rfl (fun c_1 => ?_) (fun c_1 => ?_)
  · replace w := w.1 c_1
    refine jw_gen (ls' := [some (vR 67 r0), none, some (vR 67 r2), some (vI x3), none, some (vI x5), some (vI x6), some (vI x7), some (vI x8), some (vI x9), none]) (st' := []) (And.intro (Or.inl rfl) (And.intro (Or.inl rfl) (And.intro (Or.inl rfl) (And.intro (Or.inl rfl) (And.intro (Or.inl rfl) (And.intro (Or.inl rfl) (And.intro (Or.inl rfl) (And.intro (Or.inl rfl) (trivial))))))))) (trivial) ?_
    exact w_J8_indexOf_2_103 hK14 w
  · replace w := w.2 c_1
    refine jw_aload_n (pc' := 84) rfl rfl ?_
    refine jw_iload (pc' := 86) rfl rfl ?_
    obtain ⟨g_2, w⟩ := w
    obtain ⟨g_3, w⟩ := w
    refine jw_bald (pc' := 87) rfl rfl rfl rfl g_2 g_3.ix g_3.2 ?_
    refine jw_aload_n (pc' := 88) rfl rfl ?_
    refine jw_iload (pc' := 90) rfl rfl ?_
    obtain ⟨g_4, w⟩ := w
    obtain ⟨g_5, w⟩ := w
    refine jw_bald (pc' := 91) rfl rfl rfl rfl g_4 g_5.ix g_5.2 ?_
    refine jw_icmp_ne (tgt := 103) (pc' := 94) rfl rfl (fun c_6 => ?_) (fun c_6 => ?_)
    · replace w := w.1 c_6
      refine jw_gen (ls' := [some (vR 67 r0), none, some (vR 67 r2), some (vI x3), none, some (vI x5), some (vI x6), some (vI x7), some (vI x8), some (vI x9), none]) (st' := []) (And.intro (Or.inl rfl) (And.intro (Or.inl rfl) (And.intro (Or.inl rfl) (And.intro (Or.inl rfl) (And.intro (Or.inl rfl) (And.intro (Or.inl rfl) (And.intro (Or.inl rfl) (And.intro (Or.inl rfl) (trivial))))))))) (trivial) ?_
      exact w_J8_indexOf_2_103 hK14 w
    · replace w := w.2 c_6
      refine jw_iinc (pc' := 97) (y := x8 + (1 : Int32)) (ls' := [some (vR 67 r0), none, some (vR 67 r2), some (vI x3), none, some (vI x5), some (vI x6), some (vI x7), some (vI (x8 + (1 : Int32))), some (vI x9), some (vI x10)]) rfl (by decide) rfl rfl rfl ?_
      refine jw_iinc (pc' := 100) (y := x10 + (1 : Int32)) (ls' := [some (vR 67 r0), none, some (vR 67 r2), some (vI x3), none, some (vI x5), some (vI x6), some (vI x7), some (vI (x8 + (1 : Int32))), some (vI x9), some (vI (x10 + (1 : Int32)))]) rfl (by decide) rfl rfl rfl ?_
      refine jw_goto (pc' := 76) rfl rfl ?_
      exact hK76 _ _ _ _ _ _ _ _ _ _ w
def L_J8_indexOf_2_76 (D : JD) (d : Nat) (Q : JO → JH → Prop) (K14 : Nat → Nat → Int32 → Int32 → Int32 → Int32 → JH → Prop) : Nat → Nat → Nat → Int32 → Int32 → Int32 → Int32 → Int32 → Int32 → Int32 → JH → Prop
  | 0 => fun _ _ _ _ _ _ _ _ _ _ => False
  | n + 1 => fun r0 r2 x3 x5 x6 x7 x8 x9 x10 h => W_J8_indexOf_2_76 D d Q K14 (L_J8_indexOf_2_76 D d Q K14 n) r0 r2 x3 x5 x6 x7 x8 x9 x10 h
theorem l_J8_indexOf_2_76 {D : JD} {d : Nat} {Q : JO → JH → Prop} {K14 : Nat → Nat → Int32 → Int32 → Int32 → Int32 → JH → Prop} (hK14 : ∀ (r0 : Nat) (r2 : Nat) (x3 : Int32) (x5 : Int32) (x6 : Int32) (x7 : Int32) (h : JH), K14 r0 r2 x3 x5 x6 x7 h → JW D (d + 1) mJ8_indexOf_2 14 [some (vR 67 r0), none, some (vR 67 r2), some (vI x3), none, some (vI x5), some (vI x6), some (vI x7), none, none, none] [] h Q) : ∀ (n : Nat) (r0 : Nat) (r2 : Nat) (x3 : Int32) (x5 : Int32) (x6 : Int32) (x7 : Int32) (x8 : Int32) (x9 : Int32) (x10 : Int32) (h : JH), L_J8_indexOf_2_76 D d Q K14 n r0 r2 x3 x5 x6 x7 x8 x9 x10 h → JW D (d + 1) mJ8_indexOf_2 76 [some (vR 67 r0), none, some (vR 67 r2), some (vI x3), none, some (vI x5), some (vI x6), some (vI x7), some (vI x8), some (vI x9), some (vI x10)] [] h Q := by
  intro n
  induction n with
  | zero => intro _ _ _ _ _ _ _ _ _ _ w; exact w.elim
  | succ n ih => intro _ _ _ _ _ _ _ _ _ h w; exact w_J8_indexOf_2_76 hK14 ih w
def W_J8_indexOf_2_52 (D : JD) (d : Nat) (Q : JO → JH → Prop) (K14 : Nat → Nat → Int32 → Int32 → Int32 → Int32 → JH → Prop) (r0 : Nat) (r2 : Nat) (x3 : Int32) (x5 : Int32) (x6 : Int32) (x7 : Int32) (h : JH) : Prop :=
  (x6 < x7 → W_J8_indexOf_2_113 D d Q K14 r0 r2 x3 x5 x6 x7 h) ∧ (¬ x6 < x7 → ∃ n, L_J8_indexOf_2_76 D d Q K14 n r0 r2 x3 x5 x6 x7 (x7 + (1 : Int32)) (((x7 + (1 : Int32)) + x3) - (1 : Int32)) (1 : Int32) h)
theorem w_J8_indexOf_2_52 {D : JD} {d : Nat} {Q : JO → JH → Prop} {K14 : Nat → Nat → Int32 → Int32 → Int32 → Int32 → JH → Prop} {r0 : Nat} {r2 : Nat} {x3 : Int32} {x5 : Int32} {x6 : Int32} {x7 : Int32} {h : JH} (hK14 : ∀ (r0 : Nat) (r2 : Nat) (x3 : Int32) (x5 : Int32) (x6 : Int32) (x7 : Int32) (h : JH), K14 r0 r2 x3 x5 x6 x7 h → JW D (d + 1) mJ8_indexOf_2 14 [some (vR 67 r0), none, some (vR 67 r2), some (vI x3), none, some (vI x5), some (vI x6), some (vI x7), none, none, none] [] h Q) (w : W_J8_indexOf_2_52 D d Q K14 r0 r2 x3 x5 x6 x7 h) : JW D (d + 1) mJ8_indexOf_2 52 [some (vR 67 r0), none, some (vR 67 r2), some (vI x3), none, some (vI x5), some (vI x6), some (vI x7), none, none, none] [] h Q := by
  unfold W_J8_indexOf_2_52 at w
  refine jw_iload (pc' := 54) rfl rfl ?_
  refine jw_iload (pc' := 56) rfl rfl ?_
  refine jw_icmp_gt (tgt := 113) (pc' := 59) rfl rfl (fun c_1 => ?_) (fun c_1 => ?_)
  · replace w := w.1 c_1
    exact w_J8_indexOf_2_113 hK14 w
  · replace w := w.2 c_1
    refine jw_iload (pc' := 61) rfl rfl ?_
    refine jw_iconst (pc' := 62) (x := (1 : Int32)) rfl rfl ?_
    refine jw_iadd (pc' := 63) rfl ?_
    refine jw_istore (pc' := 65) (ls' := [some (vR 67 r0), none, some (vR 67 r2), some (vI x3), none, some (vI x5), some (vI x6), some (vI x7), some (vI (x7 + (1 : Int32))), none, none]) rfl (by decide) rfl ?_
    refine jw_iload (pc' := 67) rfl rfl ?_
    refine jw_iload_n (pc' := 68) rfl rfl ?_
    refine jw_iadd (pc' := 69) rfl ?_
    refine jw_iconst (pc' := 70) (x := (1 : Int32)) rfl rfl ?_
    refine jw_isub (pc' := 71) rfl ?_
    refine jw_istore (pc' := 73) (ls' := [some (vR 67 r0), none, some (vR 67 r2), some (vI x3), none, some (vI x5), some (vI x6), some (vI x7), some (vI (x7 + (1 : Int32))), some (vI (((x7 + (1 : Int32)) + x3) - (1 : Int32))), none]) rfl (by decide) rfl ?_
    refine jw_iconst (pc' := 74) (x := (1 : Int32)) rfl rfl ?_
    refine jw_istore (pc' := 76) (ls' := [some (vR 67 r0), none, some (vR 67 r2), some (vI x3), none, some (vI x5), some (vI x6), some (vI x7), some (vI (x7 + (1 : Int32))), some (vI (((x7 + (1 : Int32)) + x3) - (1 : Int32))), some (vI (1 : Int32))]) rfl (by decide) rfl ?_
    obtain ⟨n, w⟩ := w
    exact l_J8_indexOf_2_76 hK14 n _ _ _ _ _ _ _ _ _ _ w
def W_J8_indexOf_2_30 (D : JD) (d : Nat) (Q : JO → JH → Prop) (K14 : Nat → Nat → Int32 → Int32 → Int32 → Int32 → JH → Prop) (K30 : Nat → Nat → Int32 → Int32 → Int32 → Int32 → JH → Prop) (r0 : Nat) (r2 : Nat) (x3 : Int32) (x5 : Int32) (x6 : Int32) (x7 : Int32) (h : JH) : Prop :=
  (x6 < (x7 + (1 : Int32)) → W_J8_indexOf_2_52 D d Q K14 r0 r2 x3 x5 x6 (x7 + (1 : Int32)) h) ∧ (¬ x6 < (x7 + (1 : Int32)) → r0 ≠ 0 ∧ jin (x7 + (1 : Int32)) (jln h r0) ∧ (((jai h r0 (ixn (x7 + (1 : Int32)))) = x5 → W_J8_indexOf_2_52 D d Q K14 r0 r2 x3 x5 x6 (x7 + (1 : Int32)) h) ∧ (¬ (jai h r0 (ixn (x7 + (1 : Int32)))) = x5 → K30 r0 r2 x3 x5 x6 (x7 + (1 : Int32)) h)))
theorem w_J8_indexOf_2_30 {D : JD} {d : Nat} {Q : JO → JH → Prop} {K14 : Nat → Nat → Int32 → Int32 → Int32 → Int32 → JH → Prop} {K30 : Nat → Nat → Int32 → Int32 → Int32 → Int32 → JH → Prop} {r0 : Nat} {r2 : Nat} {x3 : Int32} {x5 : Int32} {x6 : Int32} {x7 : Int32} {h : JH} (hK14 : ∀ (r0 : Nat) (r2 : Nat) (x3 : Int32) (x5 : Int32) (x6 : Int32) (x7 : Int32) (h : JH), K14 r0 r2 x3 x5 x6 x7 h → JW D (d + 1) mJ8_indexOf_2 14 [some (vR 67 r0), none, some (vR 67 r2), some (vI x3), none, some (vI x5), some (vI x6), some (vI x7), none, none, none] [] h Q) (hK30 : ∀ (r0 : Nat) (r2 : Nat) (x3 : Int32) (x5 : Int32) (x6 : Int32) (x7 : Int32) (h : JH), K30 r0 r2 x3 x5 x6 x7 h → JW D (d + 1) mJ8_indexOf_2 30 [some (vR 67 r0), none, some (vR 67 r2), some (vI x3), none, some (vI x5), some (vI x6), some (vI x7), none, none, none] [] h Q) (w : W_J8_indexOf_2_30 D d Q K14 K30 r0 r2 x3 x5 x6 x7 h) : JW D (d + 1) mJ8_indexOf_2 30 [some (vR 67 r0), none, some (vR 67 r2), some (vI x3), none, some (vI x5), some (vI x6), some (vI x7), none, none, none] [] h Q := by
  unfold W_J8_indexOf_2_30 at w
  refine jw_iinc (pc' := 33) (y := x7 + (1 : Int32)) (ls' := [some (vR 67 r0), none, some (vR 67 r2), some (vI x3), none, some (vI x5), some (vI x6), some (vI (x7 + (1 : Int32))), none, none, none]) rfl (by decide) rfl rfl rfl ?_
  refine jw_iload (pc' := 35) rfl rfl ?_
  refine jw_iload (pc' := 37) rfl rfl ?_
  refine jw_icmp_gt (tgt := 52) (pc' := 40) rfl rfl (fun c_1 => ?_) (fun c_1 => ?_)
  · replace w := w.1 c_1
    exact w_J8_indexOf_2_52 hK14 w
  · replace w := w.2 c_1
    refine jw_aload_n (pc' := 41) rfl rfl ?_
    refine jw_iload (pc' := 43) rfl rfl ?_
    obtain ⟨g_2, w⟩ := w
    obtain ⟨g_3, w⟩ := w
    refine jw_bald (pc' := 44) rfl rfl rfl rfl g_2 g_3.ix g_3.2 ?_
    refine jw_iload (pc' := 46) rfl rfl ?_
    refine jw_icmp_eq (tgt := 52) (pc' := 49) rfl rfl (fun c_4 => ?_) (fun c_4 => ?_)
    · replace w := w.1 c_4
      exact w_J8_indexOf_2_52 hK14 w
    · replace w := w.2 c_4
      refine jw_goto (pc' := 30) rfl rfl ?_
      exact hK30 _ _ _ _ _ _ _ w
def L_J8_indexOf_2_30 (D : JD) (d : Nat) (Q : JO → JH → Prop) (K14 : Nat → Nat → Int32 → Int32 → Int32 → Int32 → JH → Prop) : Nat → Nat → Nat → Int32 → Int32 → Int32 → Int32 → JH → Prop
  | 0 => fun _ _ _ _ _ _ _ => False
  | n + 1 => fun r0 r2 x3 x5 x6 x7 h => W_J8_indexOf_2_30 D d Q K14 (L_J8_indexOf_2_30 D d Q K14 n) r0 r2 x3 x5 x6 x7 h
theorem l_J8_indexOf_2_30 {D : JD} {d : Nat} {Q : JO → JH → Prop} {K14 : Nat → Nat → Int32 → Int32 → Int32 → Int32 → JH → Prop} (hK14 : ∀ (r0 : Nat) (r2 : Nat) (x3 : Int32) (x5 : Int32) (x6 : Int32) (x7 : Int32) (h : JH), K14 r0 r2 x3 x5 x6 x7 h → JW D (d + 1) mJ8_indexOf_2 14 [some (vR 67 r0), none, some (vR 67 r2), some (vI x3), none, some (vI x5), some (vI x6), some (vI x7), none, none, none] [] h Q) : ∀ (n : Nat) (r0 : Nat) (r2 : Nat) (x3 : Int32) (x5 : Int32) (x6 : Int32) (x7 : Int32) (h : JH), L_J8_indexOf_2_30 D d Q K14 n r0 r2 x3 x5 x6 x7 h → JW D (d + 1) mJ8_indexOf_2 30 [some (vR 67 r0), none, some (vR 67 r2), some (vI x3), none, some (vI x5), some (vI x6), some (vI x7), none, none, none] [] h Q := by
  intro n
  induction n with
  | zero => intro _ _ _ _ _ _ _ w; exact w.elim
  | succ n ih => intro _ _ _ _ _ _ h w; exact w_J8_indexOf_2_30 hK14 ih w
def W_J8_indexOf_2_14 (D : JD) (d : Nat) (Q : JO → JH → Prop) (K14 : Nat → Nat → Int32 → Int32 → Int32 → Int32 → JH → Prop) (r0 : Nat) (r2 : Nat) (x3 : Int32) (x5 : Int32) (x6 : Int32) (x7 : Int32) (h : JH) : Prop :=
  (x6 < x7 → Q (.inl (some (vI (-1 : Int32)))) h) ∧ (¬ x6 < x7 → r0 ≠ 0 ∧ jin x7 (jln h r0) ∧ (((jai h r0 (ixn x7)) = x5 → W_J8_indexOf_2_52 D d Q K14 r0 r2 x3 x5 x6 x7 h) ∧ (¬ (jai h r0 (ixn x7)) = x5 → ∃ n, L_J8_indexOf_2_30 D d Q K14 n r0 r2 x3 x5 x6 x7 h)))
theorem w_J8_indexOf_2_14 {D : JD} {d : Nat} {Q : JO → JH → Prop} {K14 : Nat → Nat → Int32 → Int32 → Int32 → Int32 → JH → Prop} {r0 : Nat} {r2 : Nat} {x3 : Int32} {x5 : Int32} {x6 : Int32} {x7 : Int32} {h : JH} (hK14 : ∀ (r0 : Nat) (r2 : Nat) (x3 : Int32) (x5 : Int32) (x6 : Int32) (x7 : Int32) (h : JH), K14 r0 r2 x3 x5 x6 x7 h → JW D (d + 1) mJ8_indexOf_2 14 [some (vR 67 r0), none, some (vR 67 r2), some (vI x3), none, some (vI x5), some (vI x6), some (vI x7), none, none, none] [] h Q) (w : W_J8_indexOf_2_14 D d Q K14 r0 r2 x3 x5 x6 x7 h) : JW D (d + 1) mJ8_indexOf_2 14 [some (vR 67 r0), none, some (vR 67 r2), some (vI x3), none, some (vI x5), some (vI x6), some (vI x7), none, none, none] [] h Q := by
  unfold W_J8_indexOf_2_14 at w
  refine jw_iload (pc' := 16) rfl rfl ?_
  refine jw_iload (pc' := 18) rfl rfl ?_
  refine jw_icmp_gt (tgt := 119) (pc' := 21) rfl rfl (fun c_1 => ?_) (fun c_1 => ?_)
  · replace w := w.1 c_1
    refine jw_iconst (pc' := 120) (x := (-1 : Int32)) rfl rfl ?_
    exact jw_ireturn rfl rfl (rfl) w
  · replace w := w.2 c_1
    refine jw_aload_n (pc' := 22) rfl rfl ?_
    refine jw_iload (pc' := 24) rfl rfl ?_
    obtain ⟨g_2, w⟩ := w
    obtain ⟨g_3, w⟩ := w
    refine jw_bald (pc' := 25) rfl rfl rfl rfl g_2 g_3.ix g_3.2 ?_
    refine jw_iload (pc' := 27) rfl rfl ?_
    refine jw_icmp_eq (tgt := 52) (pc' := 30) rfl rfl (fun c_4 => ?_) (fun c_4 => ?_)
    · replace w := w.1 c_4
      exact w_J8_indexOf_2_52 hK14 w
    · replace w := w.2 c_4
      obtain ⟨n, w⟩ := w
      exact l_J8_indexOf_2_30 hK14 n _ _ _ _ _ _ _ w
def L_J8_indexOf_2_14 (D : JD) (d : Nat) (Q : JO → JH → Prop) : Nat → Nat → Nat → Int32 → Int32 → Int32 → Int32 → JH → Prop
  | 0 => fun _ _ _ _ _ _ _ => False
  | n + 1 => fun r0 r2 x3 x5 x6 x7 h => W_J8_indexOf_2_14 D d Q (L_J8_indexOf_2_14 D d Q n) r0 r2 x3 x5 x6 x7 h
theorem l_J8_indexOf_2_14 {D : JD} {d : Nat} {Q : JO → JH → Prop} : ∀ (n : Nat) (r0 : Nat) (r2 : Nat) (x3 : Int32) (x5 : Int32) (x6 : Int32) (x7 : Int32) (h : JH), L_J8_indexOf_2_14 D d Q n r0 r2 x3 x5 x6 x7 h → JW D (d + 1) mJ8_indexOf_2 14 [some (vR 67 r0), none, some (vR 67 r2), some (vI x3), none, some (vI x5), some (vI x6), some (vI x7), none, none, none] [] h Q := by
  intro n
  induction n with
  | zero => intro _ _ _ _ _ _ _ w; exact w.elim
  | succ n ih => intro _ _ _ _ _ _ h w; exact w_J8_indexOf_2_14 ih w
def W_J8_indexOf_2_0 (D : JD) (d : Nat) (Q : JO → JH → Prop) (r0 : Nat) (x1 : Int32) (r2 : Nat) (x3 : Int32) (x4 : Int32) (h : JH) : Prop :=
  r2 ≠ 0 ∧ jin (0 : Int32) (jln h r2) ∧ (∃ n, L_J8_indexOf_2_14 D d Q n r0 r2 x3 (jai h r2 (ixn (0 : Int32))) (x1 - x3) x4 h)
theorem w_J8_indexOf_2_0 {D : JD} {d : Nat} {Q : JO → JH → Prop} {r0 : Nat} {x1 : Int32} {r2 : Nat} {x3 : Int32} {x4 : Int32} {h : JH} (w : W_J8_indexOf_2_0 D d Q r0 x1 r2 x3 x4 h) : JW D (d + 1) mJ8_indexOf_2 0 [some (vR 67 r0), some (vI x1), some (vR 67 r2), some (vI x3), some (vI x4), none, none, none, none, none, none] [] h Q := by
  unfold W_J8_indexOf_2_0 at w
  refine jw_aload_n (pc' := 1) rfl rfl ?_
  refine jw_iconst (pc' := 2) (x := (0 : Int32)) rfl rfl ?_
  obtain ⟨g_1, w⟩ := w
  obtain ⟨g_2, w⟩ := w
  refine jw_bald (pc' := 3) rfl rfl rfl rfl g_1 g_2.ix g_2.2 ?_
  refine jw_istore (pc' := 5) (ls' := [some (vR 67 r0), some (vI x1), some (vR 67 r2), some (vI x3), some (vI x4), some (vI (jai h r2 (ixn (0 : Int32)))), none, none, none, none, none]) rfl (by decide) rfl ?_
  refine jw_iload_n (pc' := 6) rfl rfl ?_
  refine jw_iload_n (pc' := 7) rfl rfl ?_
  refine jw_isub (pc' := 8) rfl ?_
  refine jw_istore (pc' := 10) (ls' := [some (vR 67 r0), some (vI x1), some (vR 67 r2), some (vI x3), some (vI x4), some (vI (jai h r2 (ixn (0 : Int32)))), some (vI (x1 - x3)), none, none, none, none]) rfl (by decide) rfl ?_
  refine jw_iload (pc' := 12) rfl rfl ?_
  refine jw_istore (pc' := 14) (ls' := [some (vR 67 r0), some (vI x1), some (vR 67 r2), some (vI x3), some (vI x4), some (vI (jai h r2 (ixn (0 : Int32)))), some (vI (x1 - x3)), some (vI x4), none, none, none]) rfl (by decide) rfl ?_
  refine jw_gen (ls' := [some (vR 67 r0), none, some (vR 67 r2), some (vI x3), none, some (vI (jai h r2 (ixn (0 : Int32)))), some (vI (x1 - x3)), some (vI x4), none, none, none]) (st' := []) (And.intro (Or.inl rfl) (And.intro (Or.inl rfl) (And.intro (Or.inl rfl) (And.intro (Or.inl rfl) (And.intro (Or.inl rfl) (And.intro (Or.inl rfl) (trivial))))))) (trivial) ?_
  obtain ⟨n, w⟩ := w
  exact l_J8_indexOf_2_14 n _ _ _ _ _ _ _ w
def T_J8_indexOf_2 (D : JD) (d : Nat) (Q : JO → JH → Prop) (r0 : Nat) (x1 : Int32) (r2 : Nat) (x3 : Int32) (x4 : Int32) (h : JH) : Prop := W_J8_indexOf_2_0 D d Q r0 x1 r2 x3 x4 h
theorem t_J8_indexOf_2 {D : JD} {d : Nat} {Q : JO → JH → Prop} {r0 : Nat} {x1 : Int32} {r2 : Nat} {x3 : Int32} {x4 : Int32} {h : JH} (w : T_J8_indexOf_2 D d Q r0 x1 r2 x3 x4 h) : cJ8_indexOf_2 D (d + 1) r0 x1 r2 x3 x4 h Q := by
  unfold T_J8_indexOf_2 at w
  unfold cJ8_indexOf_2
  exact w_J8_indexOf_2_0 w
def W_J8_indexOf_3_0 (D : JD) (d : Nat) (Q : JO → JH → Prop) (r0 : Nat) (x1 : Int32) (x2 : Int32) (x3 : Int32) (h : JH) : Prop :=
  cJ8_canEncode_2 D d x1 h (pI D h (fun v_3 h_1 => (¬ v_3 = 0 → cJ15_max D d x2 (0 : Int32) h_1 (pI D h_1 (fun v_7 h_5 => r0 ≠ 0 ∧ (cJ15_min D d x3 (nI (jln h_5 r0)) h_5 (pI D h_5 (fun v_11 h_9 => (v_7 < v_11 → cJ8_indexOfChar D d r0 x1 v_7 v_11 h_9 (pI D h_9 (fun v_15 h_13 => Q (.inl (some (vI v_15))) h_13) (jth Q))) ∧ (¬ v_7 < v_11 → Q (.inl (some (vI (-1 : Int32)))) h_9)) (jth Q)))) (jth Q))) ∧ (v_3 = 0 → Q (.inl (some (vI (-1 : Int32)))) h_1)) (jth Q))
theorem w_J8_indexOf_3_0 {D : JD} {d : Nat} {Q : JO → JH → Prop} {r0 : Nat} {x1 : Int32} {x2 : Int32} {x3 : Int32} {h : JH} (w : W_J8_indexOf_3_0 D d Q r0 x1 x2 x3 h) : JW D (d + 1) mJ8_indexOf_3 0 [some (vR 67 r0), some (vI x1), some (vI x2), some (vI x3)] [] h Q := by
  unfold W_J8_indexOf_3_0 at w
  refine jw_iload_n (pc' := 1) rfl rfl ?_
  refine jw_cI (st := []) (sa := [vI x1]) okJ8_canEncode_2 rfl rfl rfl rfl rfl rfl (jstp_static (sa := [vI x1]) (st := []) rfl rfl sJ8_canEncode_2 okJ8_canEncode_2 rfl rfl) w (fun v_3 h_1 _ _ w => ?_)
  refine jw_if_ne (tgt := 9) (pc' := 7) rfl rfl (fun c_4 => ?_) (fun c_4 => ?_)
  · replace w := w.1 c_4
    refine jw_iload_n (pc' := 10) rfl rfl ?_
    refine jw_iconst (pc' := 11) (x := (0 : Int32)) rfl rfl ?_
    refine jw_cI (st := []) (sa := [vI x2, vI (0 : Int32)]) okJ15_max rfl rfl rfl rfl rfl rfl (jstp_static (sa := [vI x2, vI (0 : Int32)]) (st := []) rfl rfl sJ15_max okJ15_max rfl rfl) w (fun v_7 h_5 _ _ w => ?_)
    refine jw_istore_n (pc' := 15) (ls' := [some (vR 67 r0), some (vI x1), some (vI v_7), some (vI x3)]) rfl (by decide) rfl ?_
    refine jw_iload_n (pc' := 16) rfl rfl ?_
    refine jw_aload_n (pc' := 17) rfl rfl ?_
    obtain ⟨g_8, w⟩ := w
    refine jw_alen (pc' := 18) rfl rfl g_8 ?_
    refine jw_cI (st := []) (sa := [vI x3, vI (nI (jln h_5 r0))]) okJ15_min rfl rfl rfl rfl rfl rfl (jstp_static (sa := [vI x3, vI (nI (jln h_5 r0))]) (st := []) rfl rfl sJ15_min okJ15_min rfl rfl) w (fun v_11 h_9 _ _ w => ?_)
    refine jw_istore_n (pc' := 22) (ls' := [some (vR 67 r0), some (vI x1), some (vI v_7), some (vI v_11)]) rfl (by decide) rfl ?_
    refine jw_iload_n (pc' := 23) rfl rfl ?_
    refine jw_iload_n (pc' := 24) rfl rfl ?_
    refine jw_icmp_lt (tgt := 29) (pc' := 27) rfl rfl (fun c_12 => ?_) (fun c_12 => ?_)
    · replace w := w.1 c_12
      refine jw_aload_n (pc' := 30) rfl rfl ?_
      refine jw_iload_n (pc' := 31) rfl rfl ?_
      refine jw_iload_n (pc' := 32) rfl rfl ?_
      refine jw_iload_n (pc' := 33) rfl rfl ?_
      refine jw_cI (st := []) (sa := [vR 67 r0, vI x1, vI v_7, vI v_11]) okJ8_indexOfChar rfl rfl rfl rfl rfl rfl (jstp_static (sa := [vR 67 r0, vI x1, vI v_7, vI v_11]) (st := []) rfl rfl sJ8_indexOfChar okJ8_indexOfChar rfl rfl) w (fun v_15 h_13 _ _ w => ?_)
      exact jw_ireturn rfl rfl (rfl) w
    · replace w := w.2 c_12
      refine jw_iconst (pc' := 28) (x := (-1 : Int32)) rfl rfl ?_
      exact jw_ireturn rfl rfl (rfl) w
  · replace w := w.2 c_4
    refine jw_iconst (pc' := 8) (x := (-1 : Int32)) rfl rfl ?_
    exact jw_ireturn rfl rfl (rfl) w
def T_J8_indexOf_3 (D : JD) (d : Nat) (Q : JO → JH → Prop) (r0 : Nat) (x1 : Int32) (x2 : Int32) (x3 : Int32) (h : JH) : Prop := W_J8_indexOf_3_0 D d Q r0 x1 x2 x3 h
theorem t_J8_indexOf_3 {D : JD} {d : Nat} {Q : JO → JH → Prop} {r0 : Nat} {x1 : Int32} {x2 : Int32} {x3 : Int32} {h : JH} (w : T_J8_indexOf_3 D d Q r0 x1 x2 x3 h) : cJ8_indexOf_3 D (d + 1) r0 x1 x2 x3 h Q := by
  unfold T_J8_indexOf_3 at w
  unfold cJ8_indexOf_3
  exact w_J8_indexOf_3_0 w
def W_J8_canEncode_2_16 (D : JD) (d : Nat) (Q : JO → JH → Prop) (s0 : Int32) (h : JH) : Prop :=
  jbo s0 ∧ (Q (.inl (some (vI s0))) h)
theorem w_J8_canEncode_2_16 {D : JD} {d : Nat} {Q : JO → JH → Prop} {s0 : Int32} {h : JH} (w : W_J8_canEncode_2_16 D d Q s0 h) : JW D (d + 1) mJ8_canEncode_2 16 [none] [vI s0] h Q := by
  unfold W_J8_canEncode_2_16 at w
  obtain ⟨g_1, w⟩ := w
  exact jw_ireturn rfl rfl (g_1.nr) w
def W_J8_canEncode_2_15 (D : JD) (d : Nat) (Q : JO → JH → Prop) (h : JH) : Prop :=
  W_J8_canEncode_2_16 D d Q (0 : Int32) h
theorem w_J8_canEncode_2_15 {D : JD} {d : Nat} {Q : JO → JH → Prop} {h : JH} (w : W_J8_canEncode_2_15 D d Q h) : JW D (d + 1) mJ8_canEncode_2 15 [none] [] h Q := by
  unfold W_J8_canEncode_2_15 at w
  refine jw_iconst (pc' := 16) (x := (0 : Int32)) rfl rfl ?_
  exact w_J8_canEncode_2_16 w
def W_J8_canEncode_2_0 (D : JD) (d : Nat) (Q : JO → JH → Prop) (x0 : Int32) (h : JH) : Prop :=
  (x0 < 0 → W_J8_canEncode_2_15 D d Q h) ∧ (¬ x0 < 0 → ((255 : Int32) < x0 → W_J8_canEncode_2_15 D d Q h) ∧ (¬ (255 : Int32) < x0 → W_J8_canEncode_2_16 D d Q (1 : Int32) h))
theorem w_J8_canEncode_2_0 {D : JD} {d : Nat} {Q : JO → JH → Prop} {x0 : Int32} {h : JH} (w : W_J8_canEncode_2_0 D d Q x0 h) : JW D (d + 1) mJ8_canEncode_2 0 [some (vI x0)] [] h Q := by
  unfold W_J8_canEncode_2_0 at w
  refine jw_iload_n (pc' := 1) rfl rfl ?_
  refine jw_if_lt (tgt := 15) (pc' := 4) rfl rfl (fun c_1 => ?_) (fun c_1 => ?_)
  · replace w := w.1 c_1
    refine jw_gen (ls' := [none]) (st' := []) (trivial) (trivial) ?_
    exact w_J8_canEncode_2_15 w
  · replace w := w.2 c_1
    refine jw_iload_n (pc' := 5) rfl rfl ?_
    refine jw_sipush (pc' := 8) (x := (255 : Int32)) rfl rfl ?_
    refine jw_icmp_gt (tgt := 15) (pc' := 11) rfl rfl (fun c_2 => ?_) (fun c_2 => ?_)
    · replace w := w.1 c_2
      refine jw_gen (ls' := [none]) (st' := []) (trivial) (trivial) ?_
      exact w_J8_canEncode_2_15 w
    · replace w := w.2 c_2
      refine jw_iconst (pc' := 12) (x := (1 : Int32)) rfl rfl ?_
      refine jw_goto (pc' := 16) rfl rfl ?_
      refine jw_gen (ls' := [none]) (st' := [vI (1 : Int32)]) (trivial) (And.intro (Or.inl rfl) (trivial)) ?_
      exact w_J8_canEncode_2_16 w
def T_J8_canEncode_2 (D : JD) (d : Nat) (Q : JO → JH → Prop) (x0 : Int32) (h : JH) : Prop := W_J8_canEncode_2_0 D d Q x0 h
theorem t_J8_canEncode_2 {D : JD} {d : Nat} {Q : JO → JH → Prop} {x0 : Int32} {h : JH} (w : T_J8_canEncode_2 D d Q x0 h) : cJ8_canEncode_2 D (d + 1) x0 h Q := by
  unfold T_J8_canEncode_2 at w
  unfold cJ8_canEncode_2
  exact w_J8_canEncode_2_0 w
def W_J8_indexOfChar_7 (D : JD) (d : Nat) (Q : JO → JH → Prop) (K7 : Nat → Int32 → Int32 → Int32 → JH → Prop) (r0 : Nat) (x3 : Int32) (x4 : Int32) (x5 : Int32) (h : JH) : Prop :=
  (x3 ≤ x5 → Q (.inl (some (vI (-1 : Int32)))) h) ∧ (¬ x3 ≤ x5 → r0 ≠ 0 ∧ jin x5 (jln h r0) ∧ ((¬ (jai h r0 (ixn x5)) = x4 → K7 r0 x3 x4 (x5 + (1 : Int32)) h) ∧ ((jai h r0 (ixn x5)) = x4 → Q (.inl (some (vI x5))) h)))
theorem w_J8_indexOfChar_7 {D : JD} {d : Nat} {Q : JO → JH → Prop} {K7 : Nat → Int32 → Int32 → Int32 → JH → Prop} {r0 : Nat} {x3 : Int32} {x4 : Int32} {x5 : Int32} {h : JH} (hK7 : ∀ (r0 : Nat) (x3 : Int32) (x4 : Int32) (x5 : Int32) (h : JH), K7 r0 x3 x4 x5 h → JW D (d + 1) mJ8_indexOfChar 7 [some (vR 67 r0), none, none, some (vI x3), some (vI x4), some (vI x5)] [] h Q) (w : W_J8_indexOfChar_7 D d Q K7 r0 x3 x4 x5 h) : JW D (d + 1) mJ8_indexOfChar 7 [some (vR 67 r0), none, none, some (vI x3), some (vI x4), some (vI x5)] [] h Q := by
  unfold W_J8_indexOfChar_7 at w
  refine jw_iload (pc' := 9) rfl rfl ?_
  refine jw_iload_n (pc' := 10) rfl rfl ?_
  refine jw_icmp_ge (tgt := 31) (pc' := 13) rfl rfl (fun c_1 => ?_) (fun c_1 => ?_)
  · replace w := w.1 c_1
    refine jw_iconst (pc' := 32) (x := (-1 : Int32)) rfl rfl ?_
    exact jw_ireturn rfl rfl (rfl) w
  · replace w := w.2 c_1
    refine jw_aload_n (pc' := 14) rfl rfl ?_
    refine jw_iload (pc' := 16) rfl rfl ?_
    obtain ⟨g_2, w⟩ := w
    obtain ⟨g_3, w⟩ := w
    refine jw_bald (pc' := 17) rfl rfl rfl rfl g_2 g_3.ix g_3.2 ?_
    refine jw_iload (pc' := 19) rfl rfl ?_
    refine jw_icmp_ne (tgt := 25) (pc' := 22) rfl rfl (fun c_4 => ?_) (fun c_4 => ?_)
    · replace w := w.1 c_4
      refine jw_iinc (pc' := 28) (y := x5 + (1 : Int32)) (ls' := [some (vR 67 r0), none, none, some (vI x3), some (vI x4), some (vI (x5 + (1 : Int32)))]) rfl (by decide) rfl rfl rfl ?_
      refine jw_goto (pc' := 7) rfl rfl ?_
      exact hK7 _ _ _ _ _ w
    · replace w := w.2 c_4
      refine jw_iload (pc' := 24) rfl rfl ?_
      exact jw_ireturn rfl rfl (rfl) w
def L_J8_indexOfChar_7 (D : JD) (d : Nat) (Q : JO → JH → Prop) : Nat → Nat → Int32 → Int32 → Int32 → JH → Prop
  | 0 => fun _ _ _ _ _ => False
  | n + 1 => fun r0 x3 x4 x5 h => W_J8_indexOfChar_7 D d Q (L_J8_indexOfChar_7 D d Q n) r0 x3 x4 x5 h
theorem l_J8_indexOfChar_7 {D : JD} {d : Nat} {Q : JO → JH → Prop} : ∀ (n : Nat) (r0 : Nat) (x3 : Int32) (x4 : Int32) (x5 : Int32) (h : JH), L_J8_indexOfChar_7 D d Q n r0 x3 x4 x5 h → JW D (d + 1) mJ8_indexOfChar 7 [some (vR 67 r0), none, none, some (vI x3), some (vI x4), some (vI x5)] [] h Q := by
  intro n
  induction n with
  | zero => intro _ _ _ _ _ w; exact w.elim
  | succ n ih => intro _ _ _ _ h w; exact w_J8_indexOfChar_7 ih w
def W_J8_indexOfChar_0 (D : JD) (d : Nat) (Q : JO → JH → Prop) (r0 : Nat) (x1 : Int32) (x2 : Int32) (x3 : Int32) (h : JH) : Prop :=
  ∃ n, L_J8_indexOfChar_7 D d Q n r0 x3 ((Int32.toInt8 x1).toInt32) x2 h
theorem w_J8_indexOfChar_0 {D : JD} {d : Nat} {Q : JO → JH → Prop} {r0 : Nat} {x1 : Int32} {x2 : Int32} {x3 : Int32} {h : JH} (w : W_J8_indexOfChar_0 D d Q r0 x1 x2 x3 h) : JW D (d + 1) mJ8_indexOfChar 0 [some (vR 67 r0), some (vI x1), some (vI x2), some (vI x3), none, none] [] h Q := by
  unfold W_J8_indexOfChar_0 at w
  refine jw_iload_n (pc' := 1) rfl rfl ?_
  refine jw_i2b (pc' := 2) rfl ?_
  refine jw_istore (pc' := 4) (ls' := [some (vR 67 r0), some (vI x1), some (vI x2), some (vI x3), some (vI ((Int32.toInt8 x1).toInt32)), none]) rfl (by decide) rfl ?_
  refine jw_iload_n (pc' := 5) rfl rfl ?_
  refine jw_istore (pc' := 7) (ls' := [some (vR 67 r0), some (vI x1), some (vI x2), some (vI x3), some (vI ((Int32.toInt8 x1).toInt32)), some (vI x2)]) rfl (by decide) rfl ?_
  refine jw_gen (ls' := [some (vR 67 r0), none, none, some (vI x3), some (vI ((Int32.toInt8 x1).toInt32)), some (vI x2)]) (st' := []) (And.intro (Or.inl rfl) (And.intro (Or.inl rfl) (And.intro (Or.inl rfl) (And.intro (Or.inl rfl) (trivial))))) (trivial) ?_
  obtain ⟨n, w⟩ := w
  exact l_J8_indexOfChar_7 n _ _ _ _ _ w
def T_J8_indexOfChar (D : JD) (d : Nat) (Q : JO → JH → Prop) (r0 : Nat) (x1 : Int32) (x2 : Int32) (x3 : Int32) (h : JH) : Prop := W_J8_indexOfChar_0 D d Q r0 x1 x2 x3 h
theorem t_J8_indexOfChar {D : JD} {d : Nat} {Q : JO → JH → Prop} {r0 : Nat} {x1 : Int32} {x2 : Int32} {x3 : Int32} {h : JH} (w : T_J8_indexOfChar D d Q r0 x1 x2 x3 h) : cJ8_indexOfChar D (d + 1) r0 x1 x2 x3 h Q := by
  unfold T_J8_indexOfChar at w
  unfold cJ8_indexOfChar
  exact w_J8_indexOfChar_0 w
def W_J9_checkFromIndexSize_15 (D : JD) (d : Nat) (Q : JO → JH → Prop) (x0 : Int32) (x1 : Int32) (x2 : Int32) (r3 : Nat) (h : JH) : Prop :=
  False
theorem w_J9_checkFromIndexSize_15 {D : JD} {d : Nat} {Q : JO → JH → Prop} {x0 : Int32} {x1 : Int32} {x2 : Int32} {r3 : Nat} {h : JH} (w : W_J9_checkFromIndexSize_15 D d Q x0 x1 x2 r3 h) : JW D (d + 1) mJ9_checkFromIndexSize 15 [some (vI x0), some (vI x1), some (vI x2), some (vR 95 r3)] [] h Q := by
  unfold W_J9_checkFromIndexSize_15 at w
  refine jw_aload_n (pc' := 16) rfl rfl ?_
  refine jw_iload_n (pc' := 17) rfl rfl ?_
  refine jw_iload_n (pc' := 18) rfl rfl ?_
  refine jw_iload_n (pc' := 19) rfl rfl ?_
  exact w.elim
def W_J9_checkFromIndexSize_0 (D : JD) (d : Nat) (Q : JO → JH → Prop) (x0 : Int32) (x1 : Int32) (x2 : Int32) (r3 : Nat) (h : JH) : Prop :=
  (((x2 ||| x0) ||| x1) < 0 → W_J9_checkFromIndexSize_15 D d Q x0 x1 x2 r3 h) ∧ (¬ ((x2 ||| x0) ||| x1) < 0 → (x1 ≤ (x2 - x0) → Q (.inl (some (vI x0))) h) ∧ (¬ x1 ≤ (x2 - x0) → W_J9_checkFromIndexSize_15 D d Q x0 x1 x2 r3 h))
theorem w_J9_checkFromIndexSize_0 {D : JD} {d : Nat} {Q : JO → JH → Prop} {x0 : Int32} {x1 : Int32} {x2 : Int32} {r3 : Nat} {h : JH} (w : W_J9_checkFromIndexSize_0 D d Q x0 x1 x2 r3 h) : JW D (d + 1) mJ9_checkFromIndexSize 0 [some (vI x0), some (vI x1), some (vI x2), some (vR 95 r3)] [] h Q := by
  unfold W_J9_checkFromIndexSize_0 at w
  refine jw_iload_n (pc' := 1) rfl rfl ?_
  refine jw_iload_n (pc' := 2) rfl rfl ?_
  refine jw_ior (pc' := 3) rfl ?_
  refine jw_iload_n (pc' := 4) rfl rfl ?_
  refine jw_ior (pc' := 5) rfl ?_
  refine jw_if_lt (tgt := 15) (pc' := 8) rfl rfl (fun c_1 => ?_) (fun c_1 => ?_)
  · replace w := w.1 c_1
    exact w_J9_checkFromIndexSize_15 w
  · replace w := w.2 c_1
    refine jw_iload_n (pc' := 9) rfl rfl ?_
    refine jw_iload_n (pc' := 10) rfl rfl ?_
    refine jw_iload_n (pc' := 11) rfl rfl ?_
    refine jw_isub (pc' := 12) rfl ?_
    refine jw_icmp_le (tgt := 23) (pc' := 15) rfl rfl (fun c_2 => ?_) (fun c_2 => ?_)
    · replace w := w.1 c_2
      refine jw_iload_n (pc' := 24) rfl rfl ?_
      exact jw_ireturn rfl rfl (rfl) w
    · replace w := w.2 c_2
      exact w_J9_checkFromIndexSize_15 w
def T_J9_checkFromIndexSize (D : JD) (d : Nat) (Q : JO → JH → Prop) (x0 : Int32) (x1 : Int32) (x2 : Int32) (r3 : Nat) (h : JH) : Prop := W_J9_checkFromIndexSize_0 D d Q x0 x1 x2 r3 h
theorem t_J9_checkFromIndexSize {D : JD} {d : Nat} {Q : JO → JH → Prop} {x0 : Int32} {x1 : Int32} {x2 : Int32} {r3 : Nat} {h : JH} (w : T_J9_checkFromIndexSize D d Q x0 x1 x2 r3 h) : cJ9_checkFromIndexSize D (d + 1) x0 x1 x2 r3 h Q := by
  unfold T_J9_checkFromIndexSize at w
  unfold cJ9_checkFromIndexSize
  exact w_J9_checkFromIndexSize_0 w
def W_J9_checkIndex_9 (D : JD) (d : Nat) (Q : JO → JH → Prop) (x0 : Int32) (x1 : Int32) (r2 : Nat) (h : JH) : Prop :=
  False
theorem w_J9_checkIndex_9 {D : JD} {d : Nat} {Q : JO → JH → Prop} {x0 : Int32} {x1 : Int32} {r2 : Nat} {h : JH} (w : W_J9_checkIndex_9 D d Q x0 x1 r2 h) : JW D (d + 1) mJ9_checkIndex 9 [some (vI x0), some (vI x1), some (vR 95 r2)] [] h Q := by
  unfold W_J9_checkIndex_9 at w
  refine jw_aload_n (pc' := 10) rfl rfl ?_
  refine jw_iload_n (pc' := 11) rfl rfl ?_
  refine jw_iload_n (pc' := 12) rfl rfl ?_
  exact w.elim
def W_J9_checkIndex_0 (D : JD) (d : Nat) (Q : JO → JH → Prop) (x0 : Int32) (x1 : Int32) (r2 : Nat) (h : JH) : Prop :=
  (x0 < 0 → W_J9_checkIndex_9 D d Q x0 x1 r2 h) ∧ (¬ x0 < 0 → (x0 < x1 → Q (.inl (some (vI x0))) h) ∧ (¬ x0 < x1 → W_J9_checkIndex_9 D d Q x0 x1 r2 h))
theorem w_J9_checkIndex_0 {D : JD} {d : Nat} {Q : JO → JH → Prop} {x0 : Int32} {x1 : Int32} {r2 : Nat} {h : JH} (w : W_J9_checkIndex_0 D d Q x0 x1 r2 h) : JW D (d + 1) mJ9_checkIndex 0 [some (vI x0), some (vI x1), some (vR 95 r2)] [] h Q := by
  unfold W_J9_checkIndex_0 at w
  refine jw_iload_n (pc' := 1) rfl rfl ?_
  refine jw_if_lt (tgt := 9) (pc' := 4) rfl rfl (fun c_1 => ?_) (fun c_1 => ?_)
  · replace w := w.1 c_1
    exact w_J9_checkIndex_9 w
  · replace w := w.2 c_1
    refine jw_iload_n (pc' := 5) rfl rfl ?_
    refine jw_iload_n (pc' := 6) rfl rfl ?_
    refine jw_icmp_lt (tgt := 16) (pc' := 9) rfl rfl (fun c_2 => ?_) (fun c_2 => ?_)
    · replace w := w.1 c_2
      refine jw_iload_n (pc' := 17) rfl rfl ?_
      exact jw_ireturn rfl rfl (rfl) w
    · replace w := w.2 c_2
      exact w_J9_checkIndex_9 w
def T_J9_checkIndex (D : JD) (d : Nat) (Q : JO → JH → Prop) (x0 : Int32) (x1 : Int32) (r2 : Nat) (h : JH) : Prop := W_J9_checkIndex_0 D d Q x0 x1 r2 h
theorem t_J9_checkIndex {D : JD} {d : Nat} {Q : JO → JH → Prop} {x0 : Int32} {x1 : Int32} {r2 : Nat} {h : JH} (w : T_J9_checkIndex D d Q x0 x1 r2 h) : cJ9_checkIndex D (d + 1) x0 x1 r2 h Q := by
  unfold T_J9_checkIndex at w
  unfold cJ9_checkIndex
  exact w_J9_checkIndex_0 w
def W_J9_checkFromToIndex_14 (D : JD) (d : Nat) (Q : JO → JH → Prop) (x0 : Int32) (x1 : Int32) (x2 : Int32) (r3 : Nat) (h : JH) : Prop :=
  False
theorem w_J9_checkFromToIndex_14 {D : JD} {d : Nat} {Q : JO → JH → Prop} {x0 : Int32} {x1 : Int32} {x2 : Int32} {r3 : Nat} {h : JH} (w : W_J9_checkFromToIndex_14 D d Q x0 x1 x2 r3 h) : JW D (d + 1) mJ9_checkFromToIndex 14 [some (vI x0), some (vI x1), some (vI x2), some (vR 95 r3)] [] h Q := by
  unfold W_J9_checkFromToIndex_14 at w
  refine jw_aload_n (pc' := 15) rfl rfl ?_
  refine jw_iload_n (pc' := 16) rfl rfl ?_
  refine jw_iload_n (pc' := 17) rfl rfl ?_
  refine jw_iload_n (pc' := 18) rfl rfl ?_
  exact w.elim
def W_J9_checkFromToIndex_0 (D : JD) (d : Nat) (Q : JO → JH → Prop) (x0 : Int32) (x1 : Int32) (x2 : Int32) (r3 : Nat) (h : JH) : Prop :=
  (x0 < 0 → W_J9_checkFromToIndex_14 D d Q x0 x1 x2 r3 h) ∧ (¬ x0 < 0 → (x1 < x0 → W_J9_checkFromToIndex_14 D d Q x0 x1 x2 r3 h) ∧ (¬ x1 < x0 → (x1 ≤ x2 → Q (.inl (some (vI x0))) h) ∧ (¬ x1 ≤ x2 → W_J9_checkFromToIndex_14 D d Q x0 x1 x2 r3 h)))
theorem w_J9_checkFromToIndex_0 {D : JD} {d : Nat} {Q : JO → JH → Prop} {x0 : Int32} {x1 : Int32} {x2 : Int32} {r3 : Nat} {h : JH} (w : W_J9_checkFromToIndex_0 D d Q x0 x1 x2 r3 h) : JW D (d + 1) mJ9_checkFromToIndex 0 [some (vI x0), some (vI x1), some (vI x2), some (vR 95 r3)] [] h Q := by
  unfold W_J9_checkFromToIndex_0 at w
  refine jw_iload_n (pc' := 1) rfl rfl ?_
  refine jw_if_lt (tgt := 14) (pc' := 4) rfl rfl (fun c_1 => ?_) (fun c_1 => ?_)
  · replace w := w.1 c_1
    exact w_J9_checkFromToIndex_14 w
  · replace w := w.2 c_1
    refine jw_iload_n (pc' := 5) rfl rfl ?_
    refine jw_iload_n (pc' := 6) rfl rfl ?_
    refine jw_icmp_gt (tgt := 14) (pc' := 9) rfl rfl (fun c_2 => ?_) (fun c_2 => ?_)
    · replace w := w.1 c_2
      exact w_J9_checkFromToIndex_14 w
    · replace w := w.2 c_2
      refine jw_iload_n (pc' := 10) rfl rfl ?_
      refine jw_iload_n (pc' := 11) rfl rfl ?_
      refine jw_icmp_le (tgt := 22) (pc' := 14) rfl rfl (fun c_3 => ?_) (fun c_3 => ?_)
      · replace w := w.1 c_3
        refine jw_iload_n (pc' := 23) rfl rfl ?_
        exact jw_ireturn rfl rfl (rfl) w
      · replace w := w.2 c_3
        exact w_J9_checkFromToIndex_14 w
def T_J9_checkFromToIndex (D : JD) (d : Nat) (Q : JO → JH → Prop) (x0 : Int32) (x1 : Int32) (x2 : Int32) (r3 : Nat) (h : JH) : Prop := W_J9_checkFromToIndex_0 D d Q x0 x1 x2 r3 h
theorem t_J9_checkFromToIndex {D : JD} {d : Nat} {Q : JO → JH → Prop} {x0 : Int32} {x1 : Int32} {x2 : Int32} {r3 : Nat} {h : JH} (w : T_J9_checkFromToIndex D d Q x0 x1 x2 r3 h) : cJ9_checkFromToIndex D (d + 1) x0 x1 x2 r3 h Q := by
  unfold T_J9_checkFromToIndex at w
  unfold cJ9_checkFromToIndex
  exact w_J9_checkFromToIndex_0 w
