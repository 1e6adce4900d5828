/-! what each method needs (printed by tools/gen_wp.py) -/
set_option maxRecDepth 4000
def W_X40_named_69 (D : JD) (d : Nat) (Q : JO → JH → Prop) (h : JH) : Prop :=
  Q (.inl (some (vI (-1 : Int32)))) h
theorem w_X40_named_69 {D : JD} {d : Nat} {Q : JO → JH → Prop} {h : JH} (w : W_X40_named_69 D d Q h) : JW D (d + 1) mX40_named 69 [none, none, none, none] [] h Q := by
  unfold W_X40_named_69 at w
  refine jw_iconst (pc' := 70) (x := (-1 : Int32)) rfl rfl ?_
  exact jw_ireturn rfl rfl (rfl) w
def W_X40_named_158 (D : JD) (d : Nat) (Q : JO → JH → Prop) (K75 : Nat → Nat → Int32 → Int32 → JH → Prop) (r0 : Nat) (r1 : Nat) (x3 : Int32) (s0 : Int32) (s1 : Int32) (h : JH) : Prop :=
  K75 r0 r1 (s0 + s1) (x3 + (1 : Int32)) h
theorem w_X40_named_158 {D : JD} {d : Nat} {Q : JO → JH → Prop} {K75 : Nat → Nat → Int32 → Int32 → JH → Prop} {r0 : Nat} {r1 : Nat} {x3 : Int32} {s0 : Int32} {s1 : Int32} {h : JH} (hK75 : ∀ (r0 : Nat) (r1 : Nat) (x2 : Int32) (x3 : Int32) (h : JH), K75 r0 r1 x2 x3 h → JW D (d + 1) mX40_named 75 [some (vR 33 r0), some (vR 55 r1), some (vI x2), some (vI x3)] [] h Q) (w : W_X40_named_158 D d Q K75 r0 r1 x3 s0 s1 h) : JW D (d + 1) mX40_named 158 [some (vR 33 r0), some (vR 55 r1), none, some (vI x3)] [vI s1, vI s0] h Q := by
  unfold W_X40_named_158 at w
  refine jw_iadd (pc' := 159) rfl ?_
  refine jw_istore_n (pc' := 160) (ls' := [some (vR 33 r0), some (vR 55 r1), some (vI (s0 + s1)), some (vI x3)]) rfl (by decide) rfl ?_
  refine jw_iinc (pc' := 163) (y := x3 + (1 : Int32)) (ls' := [some (vR 33 r0), some (vR 55 r1), some (vI (s0 + s1)), some (vI (x3 + (1 : Int32)))]) rfl (by decide) rfl rfl rfl ?_
  refine jw_goto (pc' := 75) rfl rfl ?_
  exact hK75 _ _ _ _ _ w
def W_X40_named_131 (D : JD) (d : Nat) (Q : JO → JH → Prop) (K75 : Nat → Nat → Int32 → Int32 → JH → Prop) (r0 : Nat) (r1 : Nat) (x2 : Int32) (x3 : Int32) (h : JH) : Prop :=
  r0 ≠ 0 ∧ ((jfr h 142 r0) ≠ 0 ∧ jin x3 (jln h (jfr h 142 r0)) ∧ ((jar h (jfr h 142 r0) (ixn x3)) ≠ 0 ∧ (((jfi h 161 (jar h (jfr h 142 r0) (ixn x3))) = 0 → W_X40_named_158 D d Q K75 r0 r1 x3 x2 (1 : Int32) h) ∧ (¬ (jfi h 161 (jar h (jfr h 142 r0) (ixn x3))) = 0 → jin x3 (jln h (jfr h 142 r0)) ∧ (cX40_width D d r0 (jar h (jfr h 142 r0) (ixn x3)) h (pI D h (fun v_9 h_7 => W_X40_named_158 D d Q K75 r0 r1 x3 x2 v_9 h_7) (jth Q)))))))
theorem w_X40_named_131 {D : JD} {d : Nat} {Q : JO → JH → Prop} {K75 : Nat → Nat → Int32 → Int32 → JH → Prop} {r0 : Nat} {r1 : Nat} {x2 : Int32} {x3 : Int32} {h : JH} (hK75 : ∀ (r0 : Nat) (r1 : Nat) (x2 : Int32) (x3 : Int32) (h : JH), K75 r0 r1 x2 x3 h → JW D (d + 1) mX40_named 75 [some (vR 33 r0), some (vR 55 r1), some (vI x2), some (vI x3)] [] h Q) (w : W_X40_named_131 D d Q K75 r0 r1 x2 x3 h) : JW D (d + 1) mX40_named 131 [some (vR 33 r0), some (vR 55 r1), some (vI x2), some (vI x3)] [] h Q := by
  unfold W_X40_named_131 at w
  refine jw_iload_n (pc' := 132) rfl rfl ?_
  refine jw_aload_n (pc' := 133) rfl rfl ?_
  obtain ⟨g_1, w⟩ := w
  refine jw_getR (pc' := 136) (F := 142) (t' := 152) rfl rfl rfl rfl rfl g_1 ?_
  refine jw_iload_n (pc' := 137) rfl rfl ?_
  obtain ⟨g_2, w⟩ := w
  obtain ⟨g_3, w⟩ := w
  refine jw_aald (pc' := 138) (t' := 34) rfl rfl rfl rfl g_2 g_3.ix g_3.2 ?_
  obtain ⟨g_4, w⟩ := w
  refine jw_getI (pc' := 141) (F := 161) rfl rfl rfl rfl g_4 ?_
  refine jw_if_eq (tgt := 157) (pc' := 144) rfl rfl (fun c_5 => ?_) (fun c_5 => ?_)
  · replace w := w.1 c_5
    refine jw_iconst (pc' := 158) (x := (1 : Int32)) rfl rfl ?_
    refine jw_gen (ls' := [some (vR 33 r0), some (vR 55 r1), none, some (vI x3)]) (st' := [vI (1 : Int32), vI x2]) (And.intro (Or.inl rfl) (And.intro (Or.inl rfl) (And.intro (Or.inl rfl) (trivial)))) (And.intro (Or.inl rfl) (And.intro (Or.inl rfl) (trivial))) ?_
    exact w_X40_named_158 hK75 w
  · replace w := w.2 c_5
    refine jw_aload_n (pc' := 145) rfl rfl ?_
    refine jw_aload_n (pc' := 146) rfl rfl ?_
    refine jw_getR (pc' := 149) (F := 142) (t' := 152) rfl rfl rfl rfl rfl g_1 ?_
    refine jw_iload_n (pc' := 150) rfl rfl ?_
    obtain ⟨g_6, w⟩ := w
    refine jw_aald (pc' := 151) (t' := 34) rfl rfl rfl rfl g_2 g_6.ix g_6.2 ?_
    refine jw_cI (st := [vI x2]) (sa := [vR 33 r0, vR 34 (jar h (jfr h 142 r0) (ixn x3))]) okX40_width rfl rfl rfl rfl rfl rfl (jstp_virtual (sa := [vR 34 (jar h (jfr h 142 r0) (ixn x3))]) (st := [vI x2]) (k := 0) rfl rfl sX40_width okX40_width g_1 (one33.k g_1) rfl rfl) w (fun v_9 h_7 _ _ w => ?_)
    refine jw_goto (pc' := 158) rfl rfl ?_
    refine jw_gen (ls' := [some (vR 33 r0), some (vR 55 r1), none, some (vI x3)]) (st' := [vI v_9, vI x2]) (And.intro (Or.inl rfl) (And.intro (Or.inl rfl) (And.intro (Or.inl rfl) (trivial)))) (And.intro (Or.inl rfl) (And.intro (Or.inl rfl) (trivial))) ?_
    exact w_X40_named_158 hK75 w
def W_X40_named_75 (D : JD) (d : Nat) (Q : JO → JH → Prop) (K75 : Nat → Nat → Int32 → Int32 → JH → Prop) (r0 : Nat) (r1 : Nat) (x2 : Int32) (x3 : Int32) (h : JH) : Prop :=
  r0 ≠ 0 ∧ (((jfi h 143 r0) ≤ x3 → Q (.inl (some (vI (-1 : Int32)))) h) ∧ (¬ (jfi h 143 r0) ≤ x3 → (jfr h 142 r0) ≠ 0 ∧ jin x3 (jln h (jfr h 142 r0)) ∧ ((jar h (jfr h 142 r0) (ixn x3)) ≠ 0 ∧ ((¬ (jfi h 161 (jar h (jfr h 142 r0) (ixn x3))) = 0 → W_X40_named_131 D d Q K75 r0 r1 x2 x3 h) ∧ ((jfi h 161 (jar h (jfr h 142 r0) (ixn x3))) = 0 → jin x3 (jln h (jfr h 142 r0)) ∧ (((jfr h 164 (jar h (jfr h 142 r0) (ixn x3))) = 0 → W_X40_named_131 D d Q K75 r0 r1 x2 x3 h) ∧ ((jfr h 164 (jar h (jfr h 142 r0) (ixn x3))) ≠ 0 → jin x3 (jln h (jfr h 142 r0)) ∧ ((r1 = 0 ∨ jkd h r1 = 24) ∧ (r1 ≠ 0 ∧ (cJ5_equals D d (jfr h 164 (jar h (jfr h 142 r0) (ixn x3))) (jfr h 118 r1) h (pI D h (fun v_14 h_12 => (v_14 = 0 → W_X40_named_131 D d Q K75 r0 r1 x2 x3 h_12) ∧ (¬ v_14 = 0 → Q (.inl (some (vI x2))) h_12)) (jth Q))))))))))))
theorem w_X40_named_75 {D : JD} {d : Nat} {Q : JO → JH → Prop} {K75 : Nat → Nat → Int32 → Int32 → JH → Prop} {r0 : Nat} {r1 : Nat} {x2 : Int32} {x3 : Int32} {h : JH} (hK75 : ∀ (r0 : Nat) (r1 : Nat) (x2 : Int32) (x3 : Int32) (h : JH), K75 r0 r1 x2 x3 h → JW D (d + 1) mX40_named 75 [some (vR 33 r0), some (vR 55 r1), some (vI x2), some (vI x3)] [] h Q) (w : W_X40_named_75 D d Q K75 r0 r1 x2 x3 h) : JW D (d + 1) mX40_named 75 [some (vR 33 r0), some (vR 55 r1), some (vI x2), some (vI x3)] [] h Q := by
  unfold W_X40_named_75 at w
  refine jw_iload_n (pc' := 76) rfl rfl ?_
  refine jw_aload_n (pc' := 77) rfl rfl ?_
  obtain ⟨g_1, w⟩ := w
  refine jw_getI (pc' := 80) (F := 143) rfl rfl rfl rfl g_1 ?_
  refine jw_icmp_ge (tgt := 166) (pc' := 83) rfl rfl (fun c_2 => ?_) (fun c_2 => ?_)
  · replace w := w.1 c_2
    refine jw_iconst (pc' := 167) (x := (-1 : Int32)) rfl rfl ?_
    exact jw_ireturn rfl rfl (rfl) w
  · replace w := w.2 c_2
    refine jw_aload_n (pc' := 84) rfl rfl ?_
    refine jw_getR (pc' := 87) (F := 142) (t' := 152) rfl rfl rfl rfl rfl g_1 ?_
    refine jw_iload_n (pc' := 88) rfl rfl ?_
    obtain ⟨g_3, w⟩ := w
    obtain ⟨g_4, w⟩ := w
    refine jw_aald (pc' := 89) (t' := 34) rfl rfl rfl rfl g_3 g_4.ix g_4.2 ?_
    obtain ⟨g_5, w⟩ := w
    refine jw_getI (pc' := 92) (F := 161) rfl rfl rfl rfl g_5 ?_
    refine jw_if_ne (tgt := 131) (pc' := 95) rfl rfl (fun c_6 => ?_) (fun c_6 => ?_)
    · replace w := w.1 c_6
      exact w_X40_named_131 hK75 w
    · replace w := w.2 c_6
      refine jw_aload_n (pc' := 96) rfl rfl ?_
      refine jw_getR (pc' := 99) (F := 142) (t' := 152) rfl rfl rfl rfl rfl g_1 ?_
      refine jw_iload_n (pc' := 100) rfl rfl ?_
      obtain ⟨g_7, w⟩ := w
      refine jw_aald (pc' := 101) (t' := 34) rfl rfl rfl rfl g_3 g_7.ix g_7.2 ?_
      refine jw_getR (pc' := 104) (F := 164) (t' := 64) rfl rfl rfl rfl rfl g_5 ?_
      refine jw_ifnull (tgt := 131) (pc' := 107) rfl rfl (fun c_8 => ?_) (fun c_8 => ?_)
      · replace w := w.1 c_8
        exact w_X40_named_131 hK75 w
      · replace w := w.2 c_8
        refine jw_aload_n (pc' := 108) rfl rfl ?_
        refine jw_getR (pc' := 111) (F := 142) (t' := 152) rfl rfl rfl rfl rfl g_1 ?_
        refine jw_iload_n (pc' := 112) rfl rfl ?_
        obtain ⟨g_9, w⟩ := w
        refine jw_aald (pc' := 113) (t' := 34) rfl rfl rfl rfl g_3 g_9.ix g_9.2 ?_
        refine jw_getR (pc' := 116) (F := 164) (t' := 64) rfl rfl rfl rfl rfl g_5 ?_
        refine jw_aload_n (pc' := 117) rfl rfl ?_
        obtain ⟨g_10, w⟩ := w
        refine jw_cast (pc' := 120) (t2 := 24) rfl rfl rfl rfl g_10 ?_
        obtain ⟨g_11, w⟩ := w
        refine jw_getR (pc' := 123) (F := 118) (t' := 64) rfl rfl rfl rfl rfl g_11 ?_
        refine jw_cI (st := []) (sa := [vR 64 (jfr h 164 (jar h (jfr h 142 r0) (ixn x3))), vR 64 (jfr h 118 r1)]) okJ5_equals rfl rfl rfl rfl rfl rfl (jstp_virtual (sa := [vR 64 (jfr h 118 r1)]) (st := []) (k := 0) rfl rfl sJ5_equals okJ5_equals c_8 (one64.k c_8) rfl rfl) w (fun v_14 h_12 _ _ w => ?_)
        refine jw_if_eq (tgt := 131) (pc' := 129) rfl rfl (fun c_15 => ?_) (fun c_15 => ?_)
        · replace w := w.1 c_15
          exact w_X40_named_131 hK75 w
        · replace w := w.2 c_15
          refine jw_iload_n (pc' := 130) rfl rfl ?_
          exact jw_ireturn rfl rfl (rfl) w
def L_X40_named_75 (D : JD) (d : Nat) (Q : JO → JH → Prop) : Nat → Nat → Nat → Int32 → Int32 → JH → Prop
  | 0 => fun _ _ _ _ _ => False
  | n + 1 => fun r0 r1 x2 x3 h => W_X40_named_75 D d Q (L_X40_named_75 D d Q n) r0 r1 x2 x3 h
theorem l_X40_named_75 {D : JD} {d : Nat} {Q : JO → JH → Prop} : ∀ (n : Nat) (r0 : Nat) (r1 : Nat) (x2 : Int32) (x3 : Int32) (h : JH), L_X40_named_75 D d Q n r0 r1 x2 x3 h → JW D (d + 1) mX40_named 75 [some (vR 33 r0), some (vR 55 r1), some (vI x2), some (vI x3)] [] h Q := by
  intro n
  induction n with
  | zero => intro _ _ _ _ _ w; exact w.elim
  | succ n ih => intro _ _ _ _ h w; exact w_X40_named_75 ih w
def W_X40_named_52 (D : JD) (d : Nat) (Q : JO → JH → Prop) (r0 : Nat) (r1 : Nat) (h : JH) : Prop :=
  ((r1 ≠ 0 ∧ jkd h r1 = 24) → (r1 = 0 ∨ jkd h r1 = 24) ∧ (r1 ≠ 0 ∧ (((jfr h 117 r1) = 0 → ∃ n, L_X40_named_75 D d Q n r0 r1 (0 : Int32) (0 : Int32) h) ∧ ((jfr h 117 r1) ≠ 0 → W_X40_named_69 D d Q h)))) ∧ (¬ (r1 ≠ 0 ∧ jkd h r1 = 24) → W_X40_named_69 D d Q h)
theorem w_X40_named_52 {D : JD} {d : Nat} {Q : JO → JH → Prop} {r0 : Nat} {r1 : Nat} {h : JH} (w : W_X40_named_52 D d Q r0 r1 h) : JW D (d + 1) mX40_named 52 [some (vR 33 r0), some (vR 55 r1), none, none] [] h Q := by
  unfold W_X40_named_52 at w
  refine jw_aload_n (pc' := 53) rfl rfl ?_
  refine jw_inst (pc' := 56) (t := 55) (kt := 24) rfl rfl rfl rfl (by decide +kernel) (fun c_1 => ?_) (fun c_1 => ?_)
  · replace w := w.1 c_1
    refine jw_if_eq (tgt := 69) (pc' := 59) rfl rfl (fun c_2 => absurd c_2 (by decide)) (fun _ => ?_)
    refine jw_aload_n (pc' := 60) rfl rfl ?_
    obtain ⟨g_3, w⟩ := w
    refine jw_cast (pc' := 63) (t2 := 24) rfl rfl rfl rfl g_3 ?_
    obtain ⟨g_4, w⟩ := w
    refine jw_getR (pc' := 66) (F := 117) (t' := 64) rfl rfl rfl rfl rfl g_4 ?_
    refine jw_ifnull (tgt := 71) (pc' := 69) rfl rfl (fun c_5 => ?_) (fun c_5 => ?_)
    · replace w := w.1 c_5
      refine jw_iconst (pc' := 72) (x := (0 : Int32)) rfl rfl ?_
      refine jw_istore_n (pc' := 73) (ls' := [some (vR 33 r0), some (vR 55 r1), some (vI (0 : Int32)), none]) rfl (by decide) rfl ?_
      refine jw_iconst (pc' := 74) (x := (0 : Int32)) rfl rfl ?_
      refine jw_istore_n (pc' := 75) (ls' := [some (vR 33 r0), some (vR 55 r1), some (vI (0 : Int32)), some (vI (0 : Int32))]) rfl (by decide) rfl ?_
      obtain ⟨n, w⟩ := w
      exact l_X40_named_75 n _ _ _ _ _ w
    · replace w := w.2 c_5
      refine jw_gen (ls' := [none, none, none, none]) (st' := []) (trivial) (trivial) ?_
      exact w_X40_named_69 w
  · replace w := w.2 c_1
    refine jw_if_eq (tgt := 69) (pc' := 59) rfl rfl (fun _ => ?_) (fun c_6 => absurd c_6 (by decide))
    refine jw_gen (ls' := [none, none, none, none]) (st' := []) (trivial) (trivial) ?_
    exact w_X40_named_69 w
def W_X40_named_41 (D : JD) (d : Nat) (Q : JO → JH → Prop) (h : JH) : Prop :=
  cX1_fault D d (jcs D 182) h (pR D h 9 (fun v_3 h_1 => v_3 ≠ 0 ∧ (Q (.inr v_3) h_1)) (jth Q))
theorem w_X40_named_41 {D : JD} {d : Nat} {Q : JO → JH → Prop} {h : JH} (w : W_X40_named_41 D d Q h) : JW D (d + 1) mX40_named 41 [none, none, none, none] [] h Q := by
  unfold W_X40_named_41 at w
  refine jw_ldcS (pc' := 43) rfl rfl rfl rfl ?_
  refine jw_cR (st := []) (sa := [vR 51 (jcs D 182)]) okX1_fault rfl rfl rfl rfl rfl rfl (jstp_static (sa := [vR 51 (jcs D 182)]) (st := []) rfl rfl sX1_fault okX1_fault rfl rfl) w (fun v_3 h_1 _ _ _ w => ?_)
  obtain ⟨g_4, w⟩ := w
  exact jw_athrow rfl rfl g_4 w
def W_X40_named_0 (D : JD) (d : Nat) (Q : JO → JH → Prop) (r0 : Nat) (r1 : Nat) (h : JH) : Prop :=
  ((r1 ≠ 0 ∧ jkd h r1 = 25) → r1 ≠ 0 ∧ ((¬ (jfr h 109 r1) = (jcs D 356) → W_X40_named_52 D d Q r0 r1 h) ∧ ((jfr h 109 r1) = (jcs D 356) → (jfr h 108 r1) ≠ 0 ∧ (cX14_number_2 D d (jfr h 108 r1) h (pL D h (fun v_7 h_6 => ((lg_cmp v_7 (1 : Int64)) < 0 → W_X40_named_41 D d Q h_6) ∧ (¬ (lg_cmp v_7 (1 : Int64)) < 0 → r0 ≠ 0 ∧ (((lg_cmp v_7 (Int32.toInt64 (jfi h_6 159 r0))) ≤ 0 → Q (.inl (some (vI ((Int64.toInt32 v_7) - (1 : Int32))))) h_6) ∧ (¬ (lg_cmp v_7 (Int32.toInt64 (jfi h_6 159 r0))) ≤ 0 → W_X40_named_41 D d Q h_6)))) (jth Q)))))) ∧ (¬ (r1 ≠ 0 ∧ jkd h r1 = 25) → W_X40_named_52 D d Q r0 r1 h)
theorem w_X40_named_0 {D : JD} {d : Nat} {Q : JO → JH → Prop} {r0 : Nat} {r1 : Nat} {h : JH} (w : W_X40_named_0 D d Q r0 r1 h) : JW D (d + 1) mX40_named 0 [some (vR 33 r0), some (vR 55 r1), none, none] [] h Q := by
  unfold W_X40_named_0 at w
  refine jw_aload_n (pc' := 1) rfl rfl ?_
  refine jw_inst (pc' := 4) (t := 55) (kt := 25) rfl rfl rfl rfl (by decide +kernel) (fun c_1 => ?_) (fun c_1 => ?_)
  · replace w := w.1 c_1
    refine jw_if_eq (tgt := 52) (pc' := 7) rfl rfl (fun c_2 => absurd c_2 (by decide)) (fun _ => ?_)
    refine jw_aload_n (pc' := 8) rfl rfl ?_
    obtain ⟨g_3, w⟩ := w
    refine jw_getR (pc' := 11) (F := 109) (t' := 52) rfl rfl rfl rfl rfl g_3 ?_
    refine jw_getsR (pc' := 14) rfl rfl rfl rfl ?_
    refine jw_acmp_ne (tgt := 52) (pc' := 17) rfl rfl (fun c_4 => ?_) (fun c_4 => ?_)
    · replace w := w.1 c_4
      exact w_X40_named_52 w
    · replace w := w.2 c_4
      refine jw_aload_n (pc' := 18) rfl rfl ?_
      refine jw_getR (pc' := 21) (F := 108) (t' := 98) rfl rfl rfl rfl rfl g_3 ?_
      obtain ⟨g_5, w⟩ := w
      refine jw_cL (st := []) (sa := [vR 98 (jfr h 108 r1)]) okX14_number_2 rfl rfl rfl rfl rfl rfl (jstp_virtual (sa := []) (st := []) (k := 0) rfl rfl sX14_number_2 okX14_number_2 g_5 (one98.k g_5) rfl rfl) w (fun v_7 h_6 _ _ w => ?_)
      refine jw_lstore_n (pc' := 25) (ls' := [some (vR 33 r0), some (vR 55 r1), some (vL v_7), none]) rfl (by decide) rfl ?_
      refine jw_lload_n (pc' := 26) rfl rfl ?_
      refine jw_lconst (pc' := 27) (x := (1 : Int64)) rfl rfl ?_
      refine jw_lcmp (pc' := 28) rfl ?_
      refine jw_if_lt (tgt := 41) (pc' := 31) rfl rfl (fun c_8 => ?_) (fun c_8 => ?_)
      · replace w := w.1 c_8
        refine jw_gen (ls' := [none, none, none, none]) (st' := []) (trivial) (trivial) ?_
        exact w_X40_named_41 w
      · replace w := w.2 c_8
        refine jw_lload_n (pc' := 32) rfl rfl ?_
        refine jw_aload_n (pc' := 33) rfl rfl ?_
        obtain ⟨g_9, w⟩ := w
        refine jw_getI (pc' := 36) (F := 159) rfl rfl rfl rfl g_9 ?_
        refine jw_i2l (pc' := 37) rfl ?_
        refine jw_lcmp (pc' := 38) rfl ?_
        refine jw_if_le (tgt := 47) (pc' := 41) rfl rfl (fun c_10 => ?_) (fun c_10 => ?_)
        · replace w := w.1 c_10
          refine jw_lload_n (pc' := 48) rfl rfl ?_
          refine jw_l2i (pc' := 49) rfl ?_
          refine jw_iconst (pc' := 50) (x := (1 : Int32)) rfl rfl ?_
          refine jw_isub (pc' := 51) rfl ?_
          exact jw_ireturn rfl rfl (rfl) w
        · replace w := w.2 c_10
          refine jw_gen (ls' := [none, none, none, none]) (st' := []) (trivial) (trivial) ?_
          exact w_X40_named_41 w
  · replace w := w.2 c_1
    refine jw_if_eq (tgt := 52) (pc' := 7) rfl rfl (fun _ => ?_) (fun c_11 => absurd c_11 (by decide))
    exact w_X40_named_52 w
def T_X40_named (D : JD) (d : Nat) (Q : JO → JH → Prop) (r0 : Nat) (r1 : Nat) (h : JH) : Prop := W_X40_named_0 D d Q r0 r1 h
theorem t_X40_named {D : JD} {d : Nat} {Q : JO → JH → Prop} {r0 : Nat} {r1 : Nat} {h : JH} (w : T_X40_named D d Q r0 r1 h) : cX40_named D (d + 1) r0 r1 h Q := by
  unfold T_X40_named at w
  unfold cX40_named
  exact w_X40_named_0 w
def W_X40_width_53 (D : JD) (d : Nat) (Q : JO → JH → Prop) (K4 : Nat → Nat → Int32 → Int32 → JH → Prop) (r0 : Nat) (r1 : Nat) (x2 : Int32) (x3 : Int32) (h : JH) : Prop :=
  K4 r0 r1 x2 (x3 + (1 : Int32)) h
theorem w_X40_width_53 {D : JD} {d : Nat} {Q : JO → JH → Prop} {K4 : Nat → Nat → Int32 → Int32 → JH → Prop} {r0 : Nat} {r1 : Nat} {x2 : Int32} {x3 : Int32} {h : JH} (hK4 : ∀ (r0 : Nat) (r1 : Nat) (x2 : Int32) (x3 : Int32) (h : JH), K4 r0 r1 x2 x3 h → JW D (d + 1) mX40_width 4 [some (vR 33 r0), some (vR 34 r1), some (vI x2), some (vI x3)] [] h Q) (w : W_X40_width_53 D d Q K4 r0 r1 x2 x3 h) : JW D (d + 1) mX40_width 53 [some (vR 33 r0), some (vR 34 r1), some (vI x2), some (vI x3)] [] h Q := by
  unfold W_X40_width_53 at w
  refine jw_iinc (pc' := 56) (y := x3 + (1 : Int32)) (ls' := [some (vR 33 r0), some (vR 34 r1), some (vI x2), some (vI (x3 + (1 : Int32)))]) rfl (by decide) rfl rfl rfl ?_
  refine jw_goto (pc' := 4) rfl rfl ?_
  exact hK4 _ _ _ _ _ w
def W_X40_width_38 (D : JD) (d : Nat) (Q : JO → JH → Prop) (K4 : Nat → Nat → Int32 → Int32 → JH → Prop) (r0 : Nat) (r1 : Nat) (x2 : Int32) (x3 : Int32) (h : JH) : Prop :=
  r0 ≠ 0 ∧ ((jfr h 144 r0) ≠ 0 ∧ jin x3 (jln h (jfr h 144 r0)) ∧ ((jar h (jfr h 144 r0) (ixn x3)) ≠ 0 ∧ ((jfr h 138 (jar h (jfr h 144 r0) (ixn x3))) ≠ 0 ∧ (W_X40_width_53 D d Q K4 r0 r1 (x2 + (jfi h 44 (jfr h 138 (jar h (jfr h 144 r0) (ixn x3))))) x3 h))))
theorem w_X40_width_38 {D : JD} {d : Nat} {Q : JO → JH → Prop} {K4 : Nat → Nat → Int32 → Int32 → JH → Prop} {r0 : Nat} {r1 : Nat} {x2 : Int32} {x3 : Int32} {h : JH} (hK4 : ∀ (r0 : Nat) (r1 : Nat) (x2 : Int32) (x3 : Int32) (h : JH), K4 r0 r1 x2 x3 h → JW D (d + 1) mX40_width 4 [some (vR 33 r0), some (vR 34 r1), some (vI x2), some (vI x3)] [] h Q) (w : W_X40_width_38 D d Q K4 r0 r1 x2 x3 h) : JW D (d + 1) mX40_width 38 [some (vR 33 r0), some (vR 34 r1), some (vI x2), some (vI x3)] [] h Q := by
  unfold W_X40_width_38 at w
  refine jw_iload_n (pc' := 39) rfl rfl ?_
  refine jw_aload_n (pc' := 40) rfl rfl ?_
  obtain ⟨g_1, w⟩ := w
  refine jw_getR (pc' := 43) (F := 144) (t' := 153) rfl rfl rfl rfl rfl g_1 ?_
  refine jw_iload_n (pc' := 44) rfl rfl ?_
  obtain ⟨g_2, w⟩ := w
  obtain ⟨g_3, w⟩ := w
  refine jw_aald (pc' := 45) (t' := 31) rfl rfl rfl rfl g_2 g_3.ix g_3.2 ?_
  obtain ⟨g_4, w⟩ := w
  refine jw_getR (pc' := 48) (F := 138) (t' := 5) rfl rfl rfl rfl rfl g_4 ?_
  obtain ⟨g_5, w⟩ := w
  refine jw_getI (pc' := 51) (F := 44) rfl rfl rfl rfl g_5 ?_
  refine jw_iadd (pc' := 52) rfl ?_
  refine jw_istore_n (pc' := 53) (ls' := [some (vR 33 r0), some (vR 34 r1), some (vI (x2 + (jfi h 44 (jfr h 138 (jar h (jfr h 144 r0) (ixn x3)))))), some (vI x3)]) rfl (by decide) rfl ?_
  exact w_X40_width_53 hK4 w
def W_X40_width_4 (D : JD) (d : Nat) (Q : JO → JH → Prop) (K4 : Nat → Nat → Int32 → Int32 → JH → Prop) (r0 : Nat) (r1 : Nat) (x2 : Int32) (x3 : Int32) (h : JH) : Prop :=
  r0 ≠ 0 ∧ (((jfi h 145 r0) ≤ x3 → Q (.inl (some (vI x2))) h) ∧ (¬ (jfi h 145 r0) ≤ x3 → r1 ≠ 0 ∧ (((jfr h 162 r1) = 0 → W_X40_width_38 D d Q K4 r0 r1 x2 x3 h) ∧ ((jfr h 162 r1) ≠ 0 → (jfr h 144 r0) ≠ 0 ∧ jin x3 (jln h (jfr h 144 r0)) ∧ ((jar h (jfr h 144 r0) (ixn x3)) ≠ 0 ∧ ((jfr h 136 (jar h (jfr h 144 r0) (ixn x3))) ≠ 0 ∧ (cJ5_equals D d (jfr h 136 (jar h (jfr h 144 r0) (ixn x3))) (jfr h 162 r1) h (pI D h (fun v_11 h_9 => (v_11 = 0 → W_X40_width_53 D d Q K4 r0 r1 x2 x3 h_9) ∧ (¬ v_11 = 0 → W_X40_width_38 D d Q K4 r0 r1 x2 x3 h_9)) (jth Q)))))))))
theorem w_X40_width_4 {D : JD} {d : Nat} {Q : JO → JH → Prop} {K4 : Nat → Nat → Int32 → Int32 → JH → Prop} {r0 : Nat} {r1 : Nat} {x2 : Int32} {x3 : Int32} {h : JH} (hK4 : ∀ (r0 : Nat) (r1 : Nat) (x2 : Int32) (x3 : Int32) (h : JH), K4 r0 r1 x2 x3 h → JW D (d + 1) mX40_width 4 [some (vR 33 r0), some (vR 34 r1), some (vI x2), some (vI x3)] [] h Q) (w : W_X40_width_4 D d Q K4 r0 r1 x2 x3 h) : JW D (d + 1) mX40_width 4 [some (vR 33 r0), some (vR 34 r1), some (vI x2), some (vI x3)] [] h Q := by
  unfold W_X40_width_4 at w
  refine jw_iload_n (pc' := 5) rfl rfl ?_
  refine jw_aload_n (pc' := 6) rfl rfl ?_
  obtain ⟨g_1, w⟩ := w
  refine jw_getI (pc' := 9) (F := 145) rfl rfl rfl rfl g_1 ?_
  refine jw_icmp_ge (tgt := 59) (pc' := 12) rfl rfl (fun c_2 => ?_) (fun c_2 => ?_)
  · replace w := w.1 c_2
    refine jw_iload_n (pc' := 60) rfl rfl ?_
    exact jw_ireturn rfl rfl (rfl) w
  · replace w := w.2 c_2
    refine jw_aload_n (pc' := 13) rfl rfl ?_
    obtain ⟨g_3, w⟩ := w
    refine jw_getR (pc' := 16) (F := 162) (t' := 64) rfl rfl rfl rfl rfl g_3 ?_
    refine jw_ifnull (tgt := 38) (pc' := 19) rfl rfl (fun c_4 => ?_) (fun c_4 => ?_)
    · replace w := w.1 c_4
      exact w_X40_width_38 hK4 w
    · replace w := w.2 c_4
      refine jw_aload_n (pc' := 20) rfl rfl ?_
      refine jw_getR (pc' := 23) (F := 144) (t' := 153) rfl rfl rfl rfl rfl g_1 ?_
      refine jw_iload_n (pc' := 24) rfl rfl ?_
      obtain ⟨g_5, w⟩ := w
      obtain ⟨g_6, w⟩ := w
      refine jw_aald (pc' := 25) (t' := 31) rfl rfl rfl rfl g_5 g_6.ix g_6.2 ?_
      obtain ⟨g_7, w⟩ := w
      refine jw_getR (pc' := 28) (F := 136) (t' := 64) rfl rfl rfl rfl rfl g_7 ?_
      refine jw_aload_n (pc' := 29) rfl rfl ?_
      refine jw_getR (pc' := 32) (F := 162) (t' := 64) rfl rfl rfl rfl rfl g_3 ?_
      obtain ⟨g_8, w⟩ := w
      refine jw_cI (st := []) (sa := [vR 64 (jfr h 136 (jar h (jfr h 144 r0) (ixn x3))), vR 64 (jfr h 162 r1)]) okJ5_equals rfl rfl rfl rfl rfl rfl (jstp_virtual (sa := [vR 64 (jfr h 162 r1)]) (st := []) (k := 0) rfl rfl sJ5_equals okJ5_equals g_8 (one64.k g_8) rfl rfl) w (fun v_11 h_9 _ _ w => ?_)
      refine jw_if_eq (tgt := 53) (pc' := 38) rfl rfl (fun c_12 => ?_) (fun c_12 => ?_)
      · replace w := w.1 c_12
        exact w_X40_width_53 hK4 w
      · replace w := w.2 c_12
        exact w_X40_width_38 hK4 w
def L_X40_width_4 (D : JD) (d : Nat) (Q : JO → JH → Prop) : Nat → Nat → Nat → Int32 → Int32 → JH → Prop
  | 0 => fun _ _ _ _ _ => False
  | n + 1 => fun r0 r1 x2 x3 h => W_X40_width_4 D d Q (L_X40_width_4 D d Q n) r0 r1 x2 x3 h
theorem l_X40_width_4 {D : JD} {d : Nat} {Q : JO → JH → Prop} : ∀ (n : Nat) (r0 : Nat) (r1 : Nat) (x2 : Int32) (x3 : Int32) (h : JH), L_X40_width_4 D d Q n r0 r1 x2 x3 h → JW D (d + 1) mX40_width 4 [some (vR 33 r0), some (vR 34 r1), some (vI x2), some (vI x3)] [] h Q := by
  intro n
  induction n with
  | zero => intro _ _ _ _ _ w; exact w.elim
  | succ n ih => intro _ _ _ _ h w; exact w_X40_width_4 ih w
def W_X40_width_0 (D : JD) (d : Nat) (Q : JO → JH → Prop) (r0 : Nat) (r1 : Nat) (h : JH) : Prop :=
  ∃ n, L_X40_width_4 D d Q n r0 r1 (0 : Int32) (0 : Int32) h
theorem w_X40_width_0 {D : JD} {d : Nat} {Q : JO → JH → Prop} {r0 : Nat} {r1 : Nat} {h : JH} (w : W_X40_width_0 D d Q r0 r1 h) : JW D (d + 1) mX40_width 0 [some (vR 33 r0), some (vR 34 r1), none, none] [] h Q := by
  unfold W_X40_width_0 at w
  refine jw_iconst (pc' := 1) (x := (0 : Int32)) rfl rfl ?_
  refine jw_istore_n (pc' := 2) (ls' := [some (vR 33 r0), some (vR 34 r1), some (vI (0 : Int32)), none]) rfl (by decide) rfl ?_
  refine jw_iconst (pc' := 3) (x := (0 : Int32)) rfl rfl ?_
  refine jw_istore_n (pc' := 4) (ls' := [some (vR 33 r0), some (vR 34 r1), some (vI (0 : Int32)), some (vI (0 : Int32))]) rfl (by decide) rfl ?_
  obtain ⟨n, w⟩ := w
  exact l_X40_width_4 n _ _ _ _ _ w
def T_X40_width (D : JD) (d : Nat) (Q : JO → JH → Prop) (r0 : Nat) (r1 : Nat) (h : JH) : Prop := W_X40_width_0 D d Q r0 r1 h
theorem t_X40_width {D : JD} {d : Nat} {Q : JO → JH → Prop} {r0 : Nat} {r1 : Nat} {h : JH} (w : T_X40_width D d Q r0 r1 h) : cX40_width D (d + 1) r0 r1 h Q := by
  unfold T_X40_width at w
  unfold cX40_width
  exact w_X40_width_0 w
def W_X40_work_221 (D : JD) (d : Nat) (Q : JO → JH → Prop) (K221 : Nat → Nat → Int32 → Int32 → Int32 → JH → Prop) (r0 : Nat) (r1 : Nat) (x4 : Int32) (x5 : Int32) (x6 : Int32) (h : JH) : Prop :=
  (x5 ≤ x6 → ∀ (r_2 : Nat) (h_3 : JH), r_2 = jsz h + 1 → h_3 = nwo h 11 4 → (cJ13_init D d r_2 h_3 (pV D h_3 (fun h_6 => cJ13_append_3 D d r_2 (jcs D 202) h_6 (pR D h_6 11 (fun v_11 h_9 => v_11 ≠ 0 ∧ (cJ13_append_2 D d v_11 (x5 - x4) h_9 (pR D h_9 11 (fun v_15 h_13 => v_15 ≠ 0 ∧ (cJ13_toString D d v_15 h_13 (pR D h_13 64 (fun v_19 h_17 => Q (.inl (some (vR 64 v_19))) h_17) (jth Q)))) (jth Q)))) (jth Q))) (jth Q)))) ∧ (¬ x5 ≤ x6 → r1 ≠ 0 ∧ ((jfr h 32 r1) ≠ 0 ∧ jin x6 (jln h (jfr h 32 r1)) ∧ ((jfr h 30 r1) ≠ 0 ∧ jin (jai h (jfr h 32 r1) (ixn x6)) (jln h (jfr h 30 r1)) ∧ (r0 ≠ 0 ∧ (cX3_row D d r1 (jar h (jfr h 30 r1) (ixn (jai h (jfr h 32 r1) (ixn x6)))) (jfi h 159 r0) h (pV D h (fun h_26 => K221 r0 r1 x4 x5 (x6 + (1 : Int32)) h_26) (jth Q)))))))
theorem w_X40_work_221 {D : JD} {d : Nat} {Q : JO → JH → Prop} {K221 : Nat → Nat → Int32 → Int32 → Int32 → JH → Prop} {r0 : Nat} {r1 : Nat} {x4 : Int32} {x5 : Int32} {x6 : Int32} {h : JH} (hK221 : ∀ (r0 : Nat) (r1 : Nat) (x4 : Int32) (x5 : Int32) (x6 : Int32) (h : JH), K221 r0 r1 x4 x5 x6 h → JW D (d + 1) mX40_work 221 [some (vR 33 r0), some (vR 3 r1), none, none, some (vI x4), some (vI x5), some (vI x6)] [] h Q) (w : W_X40_work_221 D d Q K221 r0 r1 x4 x5 x6 h) : JW D (d + 1) mX40_work 221 [some (vR 33 r0), some (vR 3 r1), none, none, some (vI x4), some (vI x5), some (vI x6)] [] h Q := by
  unfold W_X40_work_221 at w
  refine jw_iload (pc' := 223) rfl rfl ?_
  refine jw_iload (pc' := 225) rfl rfl ?_
  refine jw_icmp_ge (tgt := 254) (pc' := 228) rfl rfl (fun c_1 => ?_) (fun c_1 => ?_)
  · replace w := w.1 c_1
    refine jw_new' (pc' := 257) (k := 11) (n := 4) rfl rfl rfl rfl rfl rfl rfl (fun r_2 h_3 e_4 e_5 => ?_)
    replace w := w r_2 h_3 e_4 e_5
    refine jw_dup (pc' := 258) rfl rfl ?_
    refine jw_cV (st := [vR 11 r_2]) (sa := [vR 11 r_2]) okJ13_init rfl rfl rfl rfl rfl rfl (jstp_init (sa := []) (st := [vR 11 r_2]) rfl rfl sJ13_init okJ13_init (lw_g (jtb_mem (c := 3) (i := 134) rfl) rfl) (jnz e_4) rfl rfl) w (fun h_6 _ _ w => ?_)
    refine jw_ldcwS (pc' := 264) rfl rfl rfl rfl ?_
    refine jw_cR (st := []) (sa := [vR 11 r_2, vR 51 (jcs D 202)]) okJ13_append_3 rfl rfl rfl rfl rfl rfl (jstp_virtual (sa := [vR 51 (jcs D 202)]) (st := []) (k := 0) rfl rfl sJ13_append_3 okJ13_append_3 (jnz e_4) (one11.k (jnz e_4)) rfl rfl) w (fun v_11 h_9 _ _ _ w => ?_)
    refine jw_iload (pc' := 269) rfl rfl ?_
    refine jw_iload (pc' := 271) rfl rfl ?_
    refine jw_isub (pc' := 272) rfl ?_
    obtain ⟨g_12, w⟩ := w
    refine jw_cR (st := []) (sa := [vR 11 v_11, vI (x5 - x4)]) okJ13_append_2 rfl rfl rfl rfl rfl rfl (jstp_virtual (sa := [vI (x5 - x4)]) (st := []) (k := 0) rfl rfl sJ13_append_2 okJ13_append_2 g_12 (one11.k g_12) rfl rfl) w (fun v_15 h_13 _ _ _ w => ?_)
    obtain ⟨g_16, w⟩ := w
    refine jw_cR (st := []) (sa := [vR 11 v_15]) okJ13_toString rfl rfl rfl rfl rfl rfl (jstp_virtual (sa := []) (st := []) (k := 0) rfl rfl sJ13_toString okJ13_toString g_16 (one11.k g_16) rfl rfl) w (fun v_19 h_17 _ _ _ w => ?_)
    exact jw_areturn rfl rfl rfl rfl rfl w
  · replace w := w.2 c_1
    refine jw_aload_n (pc' := 229) rfl rfl ?_
    refine jw_aload_n (pc' := 230) rfl rfl ?_
    obtain ⟨g_20, w⟩ := w
    refine jw_getR (pc' := 233) (F := 30) (t' := 134) rfl rfl rfl rfl rfl g_20 ?_
    refine jw_aload_n (pc' := 234) rfl rfl ?_
    refine jw_getR (pc' := 237) (F := 32) (t' := 136) rfl rfl rfl rfl rfl g_20 ?_
    refine jw_iload (pc' := 239) rfl rfl ?_
    obtain ⟨g_21, w⟩ := w
    obtain ⟨g_22, w⟩ := w
    refine jw_iald (pc' := 240) rfl rfl rfl rfl g_21 g_22.ix g_22.2 ?_
    obtain ⟨g_23, w⟩ := w
    obtain ⟨g_24, w⟩ := w
    refine jw_aald (pc' := 241) (t' := 76) rfl rfl rfl rfl g_23 g_24.ix g_24.2 ?_
    refine jw_aload_n (pc' := 242) rfl rfl ?_
    obtain ⟨g_25, w⟩ := w
    refine jw_getI (pc' := 245) (F := 159) rfl rfl rfl rfl g_25 ?_
    refine jw_cV (st := []) (sa := [vR 3 r1, vR 76 (jar h (jfr h 30 r1) (ixn (jai h (jfr h 32 r1) (ixn x6)))), vI (jfi h 159 r0)]) okX3_row rfl rfl rfl rfl rfl rfl (jstp_virtual (sa := [vR 76 (jar h (jfr h 30 r1) (ixn (jai h (jfr h 32 r1) (ixn x6)))), vI (jfi h 159 r0)]) (st := []) (k := 0) rfl rfl sX3_row okX3_row g_20 (one3.k g_20) rfl rfl) w (fun h_26 _ _ w => ?_)
    refine jw_iinc (pc' := 251) (y := x6 + (1 : Int32)) (ls' := [some (vR 33 r0), some (vR 3 r1), none, none, some (vI x4), some (vI x5), some (vI (x6 + (1 : Int32)))]) rfl (by decide) rfl rfl rfl ?_
    refine jw_goto (pc' := 221) rfl rfl ?_
    exact hK221 _ _ _ _ _ _ w
def L_X40_work_221 (D : JD) (d : Nat) (Q : JO → JH → Prop) : Nat → Nat → Nat → Int32 → Int32 → Int32 → JH → Prop
  | 0 => fun _ _ _ _ _ _ => False
  | n + 1 => fun r0 r1 x4 x5 x6 h => W_X40_work_221 D d Q (L_X40_work_221 D d Q n) r0 r1 x4 x5 x6 h
theorem l_X40_work_221 {D : JD} {d : Nat} {Q : JO → JH → Prop} : ∀ (n : Nat) (r0 : Nat) (r1 : Nat) (x4 : Int32) (x5 : Int32) (x6 : Int32) (h : JH), L_X40_work_221 D d Q n r0 r1 x4 x5 x6 h → JW D (d + 1) mX40_work 221 [some (vR 33 r0), some (vR 3 r1), none, none, some (vI x4), some (vI x5), some (vI x6)] [] h Q := by
  intro n
  induction n with
  | zero => intro _ _ _ _ _ _ w; exact w.elim
  | succ n ih => intro _ _ _ _ _ h w; exact w_X40_work_221 ih w
def W_X40_work_159 (D : JD) (d : Nat) (Q : JO → JH → Prop) (r0 : Nat) (r1 : Nat) (h : JH) : Prop :=
  r0 ≠ 0 ∧ (r1 ≠ 0 ∧ (cJ15_min_2 D d (jfl h 155 r0) (Int32.toInt64 (jfi h 33 r1)) h (pL D h (fun v_4 h_3 => cJ15_min_2 D d ((Int32.toInt64 (Int64.toInt32 v_4)) + (jfl h_3 154 r0)) (Int32.toInt64 (jfi h_3 33 r1)) h_3 (pL D h_3 (fun v_6 h_5 => (((Int64.toInt32 v_6) - (Int64.toInt32 v_4)) ≤ (200 : Int32) → (jfr h_5 34 r1) ≠ 0 ∧ (cX7_clear D d (jfr h_5 34 r1) h_5 (pV D h_5 (fun h_9 => ∃ n, L_X40_work_221 D d Q n r0 r1 (Int64.toInt32 v_4) (Int64.toInt32 v_6) (Int64.toInt32 v_4) h_9) (jth Q)))) ∧ (¬ ((Int64.toInt32 v_6) - (Int64.toInt32 v_4)) ≤ (200 : Int32) → cX1_fault D d (jcs D 179) h_5 (pR D h_5 9 (fun v_14 h_12 => v_14 ≠ 0 ∧ (Q (.inr v_14) h_12)) (jth Q)))) (jth Q))) (jth Q))))
theorem w_X40_work_159 {D : JD} {d : Nat} {Q : JO → JH → Prop} {r0 : Nat} {r1 : Nat} {h : JH} (w : W_X40_work_159 D d Q r0 r1 h) : JW D (d + 1) mX40_work 159 [some (vR 33 r0), some (vR 3 r1), none, none, none, none, none] [] h Q := by
  unfold W_X40_work_159 at w
  refine jw_aload_n (pc' := 160) rfl rfl ?_
  obtain ⟨g_1, w⟩ := w
  refine jw_getL (pc' := 163) (F := 155) rfl rfl rfl rfl g_1 ?_
  refine jw_aload_n (pc' := 164) rfl rfl ?_
  obtain ⟨g_2, w⟩ := w
  refine jw_getI (pc' := 167) (F := 33) rfl rfl rfl rfl g_2 ?_
  refine jw_i2l (pc' := 168) rfl ?_
  refine jw_cL (st := []) (sa := [vL (jfl h 155 r0), vL (Int32.toInt64 (jfi h 33 r1))]) okJ15_min_2 rfl rfl rfl rfl rfl rfl (jstp_static (sa := [vL (jfl h 155 r0), vL (Int32.toInt64 (jfi h 33 r1))]) (st := []) rfl rfl sJ15_min_2 okJ15_min_2 rfl rfl) w (fun v_4 h_3 _ _ w => ?_)
  refine jw_l2i (pc' := 172) rfl ?_
  refine jw_istore (pc' := 174) (ls' := [some (vR 33 r0), some (vR 3 r1), none, none, some (vI (Int64.toInt32 v_4)), none, none]) rfl (by decide) rfl ?_
  refine jw_iload (pc' := 176) rfl rfl ?_
  refine jw_i2l (pc' := 177) rfl ?_
  refine jw_aload_n (pc' := 178) rfl rfl ?_
  refine jw_getL (pc' := 181) (F := 154) rfl rfl rfl rfl g_1 ?_
  refine jw_ladd (pc' := 182) rfl ?_
  refine jw_aload_n (pc' := 183) rfl rfl ?_
  refine jw_getI (pc' := 186) (F := 33) rfl rfl rfl rfl g_2 ?_
  refine jw_i2l (pc' := 187) rfl ?_
  refine jw_cL (st := []) (sa := [vL ((Int32.toInt64 (Int64.toInt32 v_4)) + (jfl h_3 154 r0)), vL (Int32.toInt64 (jfi h_3 33 r1))]) okJ15_min_2 rfl rfl rfl rfl rfl rfl (jstp_static (sa := [vL ((Int32.toInt64 (Int64.toInt32 v_4)) + (jfl h_3 154 r0)), vL (Int32.toInt64 (jfi h_3 33 r1))]) (st := []) rfl rfl sJ15_min_2 okJ15_min_2 rfl rfl) w (fun v_6 h_5 _ _ w => ?_)
  refine jw_l2i (pc' := 191) rfl ?_
  refine jw_istore (pc' := 193) (ls' := [some (vR 33 r0), some (vR 3 r1), none, none, some (vI (Int64.toInt32 v_4)), some (vI (Int64.toInt32 v_6)), none]) rfl (by decide) rfl ?_
  refine jw_iload (pc' := 195) rfl rfl ?_
  refine jw_iload (pc' := 197) rfl rfl ?_
  refine jw_isub (pc' := 198) rfl ?_
  refine jw_sipush (pc' := 201) (x := (200 : Int32)) rfl rfl ?_
  refine jw_icmp_le (tgt := 210) (pc' := 204) rfl rfl (fun c_7 => ?_) (fun c_7 => ?_)
  · replace w := w.1 c_7
    refine jw_aload_n (pc' := 211) rfl rfl ?_
    refine jw_getR (pc' := 214) (F := 34) (t' := 110) rfl rfl rfl rfl rfl g_2 ?_
    obtain ⟨g_8, w⟩ := w
    refine jw_cV (st := []) (sa := [vR 110 (jfr h_5 34 r1)]) okX7_clear rfl rfl rfl rfl rfl rfl (jstp_virtual (sa := []) (st := []) (k := 0) rfl rfl sX7_clear okX7_clear g_8 (one110.k g_8) rfl rfl) w (fun h_9 _ _ w => ?_)
    refine jw_iload (pc' := 219) rfl rfl ?_
    refine jw_istore (pc' := 221) (ls' := [some (vR 33 r0), some (vR 3 r1), none, none, some (vI (Int64.toInt32 v_4)), some (vI (Int64.toInt32 v_6)), some (vI (Int64.toInt32 v_4))]) rfl (by decide) rfl ?_
    obtain ⟨n, w⟩ := w
    exact l_X40_work_221 n _ _ _ _ _ _ w
  · replace w := w.2 c_7
    refine jw_ldcS (pc' := 206) rfl rfl rfl rfl ?_
    refine jw_cR (st := []) (sa := [vR 51 (jcs D 179)]) okX1_fault rfl rfl rfl rfl rfl rfl (jstp_static (sa := [vR 51 (jcs D 179)]) (st := []) rfl rfl sX1_fault okX1_fault rfl rfl) w (fun v_14 h_12 _ _ _ w => ?_)
    obtain ⟨g_15, w⟩ := w
    exact jw_athrow rfl rfl g_15 w
def W_X40_work_147 (D : JD) (d : Nat) (Q : JO → JH → Prop) (r0 : Nat) (r1 : Nat) (h : JH) : Prop :=
  r0 ≠ 0 ∧ (((jfi h 153 r0) ≤ 0 → W_X40_work_159 D d Q r0 r1 h) ∧ (¬ (jfi h 153 r0) ≤ 0 → cX40_sort D d r0 r1 h (pV D h (fun h_3 => W_X40_work_159 D d Q r0 r1 h_3) (jth Q))))
theorem w_X40_work_147 {D : JD} {d : Nat} {Q : JO → JH → Prop} {r0 : Nat} {r1 : Nat} {h : JH} (w : W_X40_work_147 D d Q r0 r1 h) : JW D (d + 1) mX40_work 147 [some (vR 33 r0), some (vR 3 r1), none, none, none, none, none] [] h Q := by
  unfold W_X40_work_147 at w
  refine jw_aload_n (pc' := 148) rfl rfl ?_
  obtain ⟨g_1, w⟩ := w
  refine jw_getI (pc' := 151) (F := 153) rfl rfl rfl rfl g_1 ?_
  refine jw_if_le (tgt := 159) (pc' := 154) rfl rfl (fun c_2 => ?_) (fun c_2 => ?_)
  · replace w := w.1 c_2
    exact w_X40_work_159 w
  · replace w := w.2 c_2
    refine jw_aload_n (pc' := 155) rfl rfl ?_
    refine jw_aload_n (pc' := 156) rfl rfl ?_
    refine jw_cV (st := []) (sa := [vR 33 r0, vR 3 r1]) okX40_sort rfl rfl rfl rfl rfl rfl (jstp_virtual (sa := [vR 3 r1]) (st := []) (k := 0) rfl rfl sX40_sort okX40_sort g_1 (one33.k g_1) rfl rfl) w (fun h_3 _ _ w => ?_)
    exact w_X40_work_159 w
def W_X40_work_135 (D : JD) (d : Nat) (Q : JO → JH → Prop) (r0 : Nat) (r1 : Nat) (h : JH) : Prop :=
  r0 ≠ 0 ∧ (((jfi h 141 r0) = 0 → W_X40_work_147 D d Q r0 r1 h) ∧ (¬ (jfi h 141 r0) = 0 → cX40_distinct D d r0 r1 h (pV D h (fun h_3 => W_X40_work_147 D d Q r0 r1 h_3) (jth Q))))
theorem w_X40_work_135 {D : JD} {d : Nat} {Q : JO → JH → Prop} {r0 : Nat} {r1 : Nat} {h : JH} (w : W_X40_work_135 D d Q r0 r1 h) : JW D (d + 1) mX40_work 135 [some (vR 33 r0), some (vR 3 r1), none, none, none, none, none] [] h Q := by
  unfold W_X40_work_135 at w
  refine jw_aload_n (pc' := 136) rfl rfl ?_
  obtain ⟨g_1, w⟩ := w
  refine jw_getI (pc' := 139) (F := 141) rfl rfl rfl rfl g_1 ?_
  refine jw_if_eq (tgt := 147) (pc' := 142) rfl rfl (fun c_2 => ?_) (fun c_2 => ?_)
  · replace w := w.1 c_2
    exact w_X40_work_147 w
  · replace w := w.2 c_2
    refine jw_aload_n (pc' := 143) rfl rfl ?_
    refine jw_aload_n (pc' := 144) rfl rfl ?_
    refine jw_cV (st := []) (sa := [vR 33 r0, vR 3 r1]) okX40_distinct rfl rfl rfl rfl rfl rfl (jstp_virtual (sa := [vR 3 r1]) (st := []) (k := 0) rfl rfl sX40_distinct okX40_distinct g_1 (one33.k g_1) rfl rfl) w (fun h_3 _ _ w => ?_)
    exact w_X40_work_147 w
def W_X40_work_106 (D : JD) (d : Nat) (Q : JO → JH → Prop) (K106 : Nat → Nat → Int32 → JH → Prop) (r0 : Nat) (r1 : Nat) (x4 : Int32) (h : JH) : Prop :=
  r1 ≠ 0 ∧ (((jfi h 24 r1) ≤ x4 → W_X40_work_135 D d Q r0 r1 h) ∧ (¬ (jfi h 24 r1) ≤ x4 → (jfr h 23 r1) ≠ 0 ∧ (cX6_take D d (jfr h 23 r1) x4 h (pV D h (fun h_4 => r0 ≠ 0 ∧ (cX40_worked D d r0 r1 h_4 (pV D h_4 (fun h_8 => K106 r0 r1 (x4 + (1 : Int32)) h_8) (jth Q)))) (jth Q)))))
theorem w_X40_work_106 {D : JD} {d : Nat} {Q : JO → JH → Prop} {K106 : Nat → Nat → Int32 → JH → Prop} {r0 : Nat} {r1 : Nat} {x4 : Int32} {h : JH} (hK106 : ∀ (r0 : Nat) (r1 : Nat) (x4 : Int32) (h : JH), K106 r0 r1 x4 h → JW D (d + 1) mX40_work 106 [some (vR 33 r0), some (vR 3 r1), none, none, some (vI x4), none, none] [] h Q) (w : W_X40_work_106 D d Q K106 r0 r1 x4 h) : JW D (d + 1) mX40_work 106 [some (vR 33 r0), some (vR 3 r1), none, none, some (vI x4), none, none] [] h Q := by
  unfold W_X40_work_106 at w
  refine jw_iload (pc' := 108) rfl rfl ?_
  refine jw_aload_n (pc' := 109) rfl rfl ?_
  obtain ⟨g_1, w⟩ := w
  refine jw_getI (pc' := 112) (F := 24) rfl rfl rfl rfl g_1 ?_
  refine jw_icmp_ge (tgt := 135) (pc' := 115) rfl rfl (fun c_2 => ?_) (fun c_2 => ?_)
  · replace w := w.1 c_2
    refine jw_gen (ls' := [some (vR 33 r0), some (vR 3 r1), none, none, none, none, none]) (st' := []) (And.intro (Or.inl rfl) (And.intro (Or.inl rfl) (trivial))) (trivial) ?_
    exact w_X40_work_135 w
  · replace w := w.2 c_2
    refine jw_aload_n (pc' := 116) rfl rfl ?_
    refine jw_getR (pc' := 119) (F := 23) (t' := 6) rfl rfl rfl rfl rfl g_1 ?_
    refine jw_iload (pc' := 121) rfl rfl ?_
    obtain ⟨g_3, w⟩ := w
    refine jw_cV (st := []) (sa := [vR 6 (jfr h 23 r1), vI x4]) okX6_take rfl rfl rfl rfl rfl rfl (jstp_virtual (sa := [vI x4]) (st := []) (k := 0) rfl rfl sX6_take okX6_take g_3 (one6.k g_3) rfl rfl) w (fun h_4 _ _ w => ?_)
    refine jw_aload_n (pc' := 125) rfl rfl ?_
    refine jw_aload_n (pc' := 126) rfl rfl ?_
    obtain ⟨g_7, w⟩ := w
    refine jw_cV (st := []) (sa := [vR 33 r0, vR 3 r1]) okX40_worked rfl rfl rfl rfl rfl rfl (jstp_virtual (sa := [vR 3 r1]) (st := []) (k := 0) rfl rfl sX40_worked okX40_worked g_7 (one33.k g_7) rfl rfl) w (fun h_8 _ _ w => ?_)
    refine jw_iinc (pc' := 132) (y := x4 + (1 : Int32)) (ls' := [some (vR 33 r0), some (vR 3 r1), none, none, some (vI (x4 + (1 : Int32))), none, none]) rfl (by decide) rfl rfl rfl ?_
    refine jw_goto (pc' := 106) rfl rfl ?_
    exact hK106 _ _ _ _ w
def L_X40_work_106 (D : JD) (d : Nat) (Q : JO → JH → Prop) : Nat → Nat → Nat → Int32 → JH → Prop
  | 0 => fun _ _ _ _ => False
  | n + 1 => fun r0 r1 x4 h => W_X40_work_106 D d Q (L_X40_work_106 D d Q n) r0 r1 x4 h
theorem l_X40_work_106 {D : JD} {d : Nat} {Q : JO → JH → Prop} : ∀ (n : Nat) (r0 : Nat) (r1 : Nat) (x4 : Int32) (h : JH), L_X40_work_106 D d Q n r0 r1 x4 h → JW D (d + 1) mX40_work 106 [some (vR 33 r0), some (vR 3 r1), none, none, some (vI x4), none, none] [] h Q := by
  intro n
  induction n with
  | zero => intro _ _ _ _ w; exact w.elim
  | succ n ih => intro _ _ _ h w; exact w_X40_work_106 ih w
def W_X40_work_5 (D : JD) (d : Nat) (Q : JO → JH → Prop) (K5 : Nat → Nat → Int64 → Int32 → JH → Prop) (r0 : Nat) (r1 : Nat) (y2 : Int64) (x4 : Int32) (h : JH) : Prop :=
  r0 ≠ 0 ∧ (((jfi h 145 r0) ≤ x4 → ((lg_cmp y2 (10000 : Int64)) ≤ 0 → r1 ≠ 0 ∧ ∀ h_5 : JH, h_5 = wfi h 24 r1 (0 : Int32) → (cX40_join D d r0 r1 (0 : Int32) h_5 (pV D h_5 (fun h_7 => cX40_filter D d r0 r1 h_7 (pV D h_7 (fun h_10 => ∀ h_13 : JH, h_13 = wfi h_10 33 r1 (0 : Int32) → (((jfi h_13 160 r0) = 0 → ((jfi h_13 24 r1) ≤ (300 : Int32) → ∃ n, L_X40_work_106 D d Q n r0 r1 (0 : Int32) h_13) ∧ (¬ (jfi h_13 24 r1) ≤ (300 : Int32) → cX1_fault D d (jcs D 179) h_13 (pR D h_13 9 (fun v_19 h_17 => v_19 ≠ 0 ∧ (Q (.inr v_19) h_17)) (jth Q)))) ∧ (¬ (jfi h_13 160 r0) = 0 → cX40_groups D d r0 r1 h_13 (pV D h_13 (fun h_21 => W_X40_work_135 D d Q r0 r1 h_21) (jth Q))))) (jth Q))) (jth Q)))) ∧ (¬ (lg_cmp y2 (10000 : Int64)) ≤ 0 → cX1_fault D d (jcs D 179) h (pR D h 9 (fun v_26 h_24 => v_26 ≠ 0 ∧ (Q (.inr v_26) h_24)) (jth Q)))) ∧ (¬ (jfi h 145 r0) ≤ x4 → (jfr h 144 r0) ≠ 0 ∧ jin x4 (jln h (jfr h 144 r0)) ∧ ((jar h (jfr h 144 r0) (ixn x4)) ≠ 0 ∧ ((jfr h 138 (jar h (jfr h 144 r0) (ixn x4))) ≠ 0 ∧ (K5 r0 r1 (y2 * (Int32.toInt64 (jfi h 46 (jfr h 138 (jar h (jfr h 144 r0) (ixn x4)))))) (x4 + (1 : Int32)) h)))))
theorem w_X40_work_5 {D : JD} {d : Nat} {Q : JO → JH → Prop} {K5 : Nat → Nat → Int64 → Int32 → JH → Prop} {r0 : Nat} {r1 : Nat} {y2 : Int64} {x4 : Int32} {h : JH} (hK5 : ∀ (r0 : Nat) (r1 : Nat) (y2 : Int64) (x4 : Int32) (h : JH), K5 r0 r1 y2 x4 h → JW D (d + 1) mX40_work 5 [some (vR 33 r0), some (vR 3 r1), some (vL y2), none, some (vI x4), none, none] [] h Q) (w : W_X40_work_5 D d Q K5 r0 r1 y2 x4 h) : JW D (d + 1) mX40_work 5 [some (vR 33 r0), some (vR 3 r1), some (vL y2), none, some (vI x4), none, none] [] h Q := by
  unfold W_X40_work_5 at w
  refine jw_iload (pc' := 7) rfl rfl ?_
  refine jw_aload_n (pc' := 8) rfl rfl ?_
  obtain ⟨g_1, w⟩ := w
  refine jw_getI (pc' := 11) (F := 145) rfl rfl rfl rfl g_1 ?_
  refine jw_icmp_ge (tgt := 37) (pc' := 14) rfl rfl (fun c_2 => ?_) (fun c_2 => ?_)
  · replace w := w.1 c_2
    refine jw_lload_n (pc' := 38) rfl rfl ?_
    refine jw_ldc2 (pc' := 41) (v := (10000 : Int64)) rfl rfl ?_
    refine jw_lcmp (pc' := 42) rfl ?_
    refine jw_if_le (tgt := 51) (pc' := 45) rfl rfl (fun c_3 => ?_) (fun c_3 => ?_)
    · replace w := w.1 c_3
      refine jw_aload_n (pc' := 52) rfl rfl ?_
      refine jw_iconst (pc' := 53) (x := (0 : Int32)) rfl rfl ?_
      obtain ⟨g_4, w⟩ := w
      refine jw_putI' (pc' := 56) (F := 24) rfl rfl rfl (Or.inr rfl) (Or.inl rfl) rfl (rfl) (rfl) rfl g_4 (fun h_5 e_6 => ?_)
      replace w := w h_5 e_6
      refine jw_aload_n (pc' := 57) rfl rfl ?_
      refine jw_aload_n (pc' := 58) rfl rfl ?_
      refine jw_iconst (pc' := 59) (x := (0 : Int32)) rfl rfl ?_
      refine jw_cV (st := []) (sa := [vR 33 r0, vR 3 r1, vI (0 : Int32)]) okX40_join rfl rfl rfl rfl rfl rfl (jstp_virtual (sa := [vR 3 r1, vI (0 : Int32)]) (st := []) (k := 0) rfl rfl sX40_join okX40_join g_1 (one33.k g_1) rfl rfl) w (fun h_7 _ _ w => ?_)
      refine jw_aload_n (pc' := 63) rfl rfl ?_
      refine jw_aload_n (pc' := 64) rfl rfl ?_
      refine jw_cV (st := []) (sa := [vR 33 r0, vR 3 r1]) okX40_filter rfl rfl rfl rfl rfl rfl (jstp_virtual (sa := [vR 3 r1]) (st := []) (k := 0) rfl rfl sX40_filter okX40_filter g_1 (one33.k g_1) rfl rfl) w (fun h_10 _ _ w => ?_)
      refine jw_aload_n (pc' := 68) rfl rfl ?_
      refine jw_iconst (pc' := 69) (x := (0 : Int32)) rfl rfl ?_
      refine jw_putI' (pc' := 72) (F := 33) rfl rfl rfl (Or.inr rfl) (Or.inl rfl) rfl (rfl) (rfl) rfl g_4 (fun h_13 e_14 => ?_)
      replace w := w h_13 e_14
      refine jw_aload_n (pc' := 73) rfl rfl ?_
      refine jw_getI (pc' := 76) (F := 160) rfl rfl rfl rfl g_1 ?_
      refine jw_if_eq (tgt := 87) (pc' := 79) rfl rfl (fun c_15 => ?_) (fun c_15 => ?_)
      · replace w := w.1 c_15
        refine jw_aload_n (pc' := 88) rfl rfl ?_
        refine jw_getI (pc' := 91) (F := 24) rfl rfl rfl rfl g_4 ?_
        refine jw_sipush (pc' := 94) (x := (300 : Int32)) rfl rfl ?_
        refine jw_icmp_le (tgt := 103) (pc' := 97) rfl rfl (fun c_16 => ?_) (fun c_16 => ?_)
        · replace w := w.1 c_16
          refine jw_iconst (pc' := 104) (x := (0 : Int32)) rfl rfl ?_
          refine jw_istore (pc' := 106) (ls' := [some (vR 33 r0), some (vR 3 r1), some (vL y2), none, some (vI (0 : Int32)), none, none]) rfl (by decide) rfl ?_
          refine jw_gen (ls' := [some (vR 33 r0), some (vR 3 r1), none, none, some (vI (0 : Int32)), none, none]) (st' := []) (And.intro (Or.inl rfl) (And.intro (Or.inl rfl) (And.intro (Or.inl rfl) (trivial)))) (trivial) ?_
          obtain ⟨n, w⟩ := w
          exact l_X40_work_106 n _ _ _ _ w
        · replace w := w.2 c_16
          refine jw_ldcS (pc' := 99) rfl rfl rfl rfl ?_
          refine jw_cR (st := []) (sa := [vR 51 (jcs D 179)]) okX1_fault rfl rfl rfl rfl rfl rfl (jstp_static (sa := [vR 51 (jcs D 179)]) (st := []) rfl rfl sX1_fault okX1_fault rfl rfl) w (fun v_19 h_17 _ _ _ w => ?_)
          obtain ⟨g_20, w⟩ := w
          exact jw_athrow rfl rfl g_20 w
      · replace w := w.2 c_15
        refine jw_aload_n (pc' := 80) rfl rfl ?_
        refine jw_aload_n (pc' := 81) rfl rfl ?_
        refine jw_cV (st := []) (sa := [vR 33 r0, vR 3 r1]) okX40_groups rfl rfl rfl rfl rfl rfl (jstp_virtual (sa := [vR 3 r1]) (st := []) (k := 0) rfl rfl sX40_groups okX40_groups g_1 (one33.k g_1) rfl rfl) w (fun h_21 _ _ w => ?_)
        refine jw_goto (pc' := 135) rfl rfl ?_
        refine jw_gen (ls' := [some (vR 33 r0), some (vR 3 r1), none, none, none, none, none]) (st' := []) (And.intro (Or.inl rfl) (And.intro (Or.inl rfl) (trivial))) (trivial) ?_
        exact w_X40_work_135 w
    · replace w := w.2 c_3
      refine jw_ldcS (pc' := 47) rfl rfl rfl rfl ?_
      refine jw_cR (st := []) (sa := [vR 51 (jcs D 179)]) okX1_fault rfl rfl rfl rfl rfl rfl (jstp_static (sa := [vR 51 (jcs D 179)]) (st := []) rfl rfl sX1_fault okX1_fault rfl rfl) w (fun v_26 h_24 _ _ _ w => ?_)
      obtain ⟨g_27, w⟩ := w
      exact jw_athrow rfl rfl g_27 w
  · replace w := w.2 c_2
    refine jw_lload_n (pc' := 15) rfl rfl ?_
    refine jw_aload_n (pc' := 16) rfl rfl ?_
    refine jw_getR (pc' := 19) (F := 144) (t' := 153) rfl rfl rfl rfl rfl g_1 ?_
    refine jw_iload (pc' := 21) rfl rfl ?_
    obtain ⟨g_28, w⟩ := w
    obtain ⟨g_29, w⟩ := w
    refine jw_aald (pc' := 22) (t' := 31) rfl rfl rfl rfl g_28 g_29.ix g_29.2 ?_
    obtain ⟨g_30, w⟩ := w
    refine jw_getR (pc' := 25) (F := 138) (t' := 5) rfl rfl rfl rfl rfl g_30 ?_
    obtain ⟨g_31, w⟩ := w
    refine jw_getI (pc' := 28) (F := 46) rfl rfl rfl rfl g_31 ?_
    refine jw_i2l (pc' := 29) rfl ?_
    refine jw_lmul (pc' := 30) rfl ?_
    refine jw_lstore_n (pc' := 31) (ls' := [some (vR 33 r0), some (vR 3 r1), some (vL (y2 * (Int32.toInt64 (jfi h 46 (jfr h 138 (jar h (jfr h 144 r0) (ixn x4))))))), none, some (vI x4), none, none]) rfl (by decide) rfl ?_
    refine jw_iinc (pc' := 34) (y := x4 + (1 : Int32)) (ls' := [some (vR 33 r0), some (vR 3 r1), some (vL (y2 * (Int32.toInt64 (jfi h 46 (jfr h 138 (jar h (jfr h 144 r0) (ixn x4))))))), none, some (vI (x4 + (1 : Int32))), none, none]) rfl (by decide) rfl rfl rfl ?_
    refine jw_goto (pc' := 5) rfl rfl ?_
    exact hK5 _ _ _ _ _ w
def L_X40_work_5 (D : JD) (d : Nat) (Q : JO → JH → Prop) : Nat → Nat → Nat → Int64 → Int32 → JH → Prop
  | 0 => fun _ _ _ _ _ => False
  | n + 1 => fun r0 r1 y2 x4 h => W_X40_work_5 D d Q (L_X40_work_5 D d Q n) r0 r1 y2 x4 h
theorem l_X40_work_5 {D : JD} {d : Nat} {Q : JO → JH → Prop} : ∀ (n : Nat) (r0 : Nat) (r1 : Nat) (y2 : Int64) (x4 : Int32) (h : JH), L_X40_work_5 D d Q n r0 r1 y2 x4 h → JW D (d + 1) mX40_work 5 [some (vR 33 r0), some (vR 3 r1), some (vL y2), none, some (vI x4), none, none] [] h Q := by
  intro n
  induction n with
  | zero => intro _ _ _ _ _ w; exact w.elim
  | succ n ih => intro _ _ _ _ h w; exact w_X40_work_5 ih w
def W_X40_work_0 (D : JD) (d : Nat) (Q : JO → JH → Prop) (r0 : Nat) (r1 : Nat) (h : JH) : Prop :=
  ∃ n, L_X40_work_5 D d Q n r0 r1 (1 : Int64) (0 : Int32) h
theorem w_X40_work_0 {D : JD} {d : Nat} {Q : JO → JH → Prop} {r0 : Nat} {r1 : Nat} {h : JH} (w : W_X40_work_0 D d Q r0 r1 h) : JW D (d + 1) mX40_work 0 [some (vR 33 r0), some (vR 3 r1), none, none, none, none, none] [] h Q := by
  unfold W_X40_work_0 at w
  refine jw_lconst (pc' := 1) (x := (1 : Int64)) rfl rfl ?_
  refine jw_lstore_n (pc' := 2) (ls' := [some (vR 33 r0), some (vR 3 r1), some (vL (1 : Int64)), none, none, none, none]) rfl (by decide) rfl ?_
  refine jw_iconst (pc' := 3) (x := (0 : Int32)) rfl rfl ?_
  refine jw_istore (pc' := 5) (ls' := [some (vR 33 r0), some (vR 3 r1), some (vL (1 : Int64)), none, some (vI (0 : Int32)), none, none]) rfl (by decide) rfl ?_
  obtain ⟨n, w⟩ := w
  exact l_X40_work_5 n _ _ _ _ _ w
def T_X40_work (D : JD) (d : Nat) (Q : JO → JH → Prop) (r0 : Nat) (r1 : Nat) (h : JH) : Prop := W_X40_work_0 D d Q r0 r1 h
theorem t_X40_work {D : JD} {d : Nat} {Q : JO → JH → Prop} {r0 : Nat} {r1 : Nat} {h : JH} (w : T_X40_work D d Q r0 r1 h) : cX40_work D (d + 1) r0 r1 h Q := by
  unfold T_X40_work at w
  unfold cX40_work
  exact w_X40_work_0 w
def W_X40_join_124 (D : JD) (d : Nat) (Q : JO → JH → Prop) (h : JH) : Prop :=
  Q (.inl none) h
theorem w_X40_join_124 {D : JD} {d : Nat} {Q : JO → JH → Prop} {h : JH} (w : W_X40_join_124 D d Q h) : JW D (d + 1) mX40_join 124 [none, none, none, none, none, none] [] h Q := by
  unfold W_X40_join_124 at w
  exact jw_return rfl rfl w
def W_X40_join_106 (D : JD) (d : Nat) (Q : JO → JH → Prop) (K30 : Nat → Nat → Int32 → Nat → Int32 → Int32 → JH → Prop) (r0 : Nat) (r1 : Nat) (x2 : Int32) (r3 : Nat) (x4 : Int32) (x5 : Int32) (h : JH) : Prop :=
  K30 r0 r1 x2 r3 x4 (x5 + (1 : Int32)) h
theorem w_X40_join_106 {D : JD} {d : Nat} {Q : JO → JH → Prop} {K30 : Nat → Nat → Int32 → Nat → Int32 → Int32 → JH → Prop} {r0 : Nat} {r1 : Nat} {x2 : Int32} {r3 : Nat} {x4 : Int32} {x5 : Int32} {h : JH} (hK30 : ∀ (r0 : Nat) (r1 : Nat) (x2 : Int32) (r3 : Nat) (x4 : Int32) (x5 : Int32) (h : JH), K30 r0 r1 x2 r3 x4 x5 h → JW D (d + 1) mX40_join 30 [some (vR 33 r0), some (vR 3 r1), some (vI x2), some (vR 31 r3), some (vI x4), some (vI x5)] [] h Q) (w : W_X40_join_106 D d Q K30 r0 r1 x2 r3 x4 x5 h) : JW D (d + 1) mX40_join 106 [some (vR 33 r0), some (vR 3 r1), some (vI x2), some (vR 31 r3), some (vI x4), some (vI x5)] [] h Q := by
  unfold W_X40_join_106 at w
  refine jw_iinc (pc' := 109) (y := x5 + (1 : Int32)) (ls' := [some (vR 33 r0), some (vR 3 r1), some (vI x2), some (vR 31 r3), some (vI x4), some (vI (x5 + (1 : Int32)))]) rfl (by decide) rfl rfl rfl ?_
  refine jw_goto (pc' := 30) rfl rfl ?_
  exact hK30 _ _ _ _ _ _ _ w
def W_X40_join_95 (D : JD) (d : Nat) (Q : JO → JH → Prop) (K30 : Nat → Nat → Int32 → Nat → Int32 → Int32 → JH → Prop) (r0 : Nat) (r1 : Nat) (x2 : Int32) (r3 : Nat) (x5 : Int32) (h : JH) : Prop :=
  r0 ≠ 0 ∧ (cX40_join D d r0 r1 (x2 + (1 : Int32)) h (pV D h (fun h_2 => W_X40_join_106 D d Q K30 r0 r1 x2 r3 (1 : Int32) x5 h_2) (jth Q)))
theorem w_X40_join_95 {D : JD} {d : Nat} {Q : JO → JH → Prop} {K30 : Nat → Nat → Int32 → Nat → Int32 → Int32 → JH → Prop} {r0 : Nat} {r1 : Nat} {x2 : Int32} {r3 : Nat} {x5 : Int32} {h : JH} (hK30 : ∀ (r0 : Nat) (r1 : Nat) (x2 : Int32) (r3 : Nat) (x4 : Int32) (x5 : Int32) (h : JH), K30 r0 r1 x2 r3 x4 x5 h → JW D (d + 1) mX40_join 30 [some (vR 33 r0), some (vR 3 r1), some (vI x2), some (vR 31 r3), some (vI x4), some (vI x5)] [] h Q) (w : W_X40_join_95 D d Q K30 r0 r1 x2 r3 x5 h) : JW D (d + 1) mX40_join 95 [some (vR 33 r0), some (vR 3 r1), some (vI x2), some (vR 31 r3), none, some (vI x5)] [] h Q := by
  unfold W_X40_join_95 at w
  refine jw_iconst (pc' := 96) (x := (1 : Int32)) rfl rfl ?_
  refine jw_istore (pc' := 98) (ls' := [some (vR 33 r0), some (vR 3 r1), some (vI x2), some (vR 31 r3), some (vI (1 : Int32)), some (vI x5)]) rfl (by decide) rfl ?_
  refine jw_aload_n (pc' := 99) rfl rfl ?_
  refine jw_aload_n (pc' := 100) rfl rfl ?_
  refine jw_iload_n (pc' := 101) rfl rfl ?_
  refine jw_iconst (pc' := 102) (x := (1 : Int32)) rfl rfl ?_
  refine jw_iadd (pc' := 103) rfl ?_
  obtain ⟨g_1, w⟩ := w
  refine jw_cV (st := []) (sa := [vR 33 r0, vR 3 r1, vI (x2 + (1 : Int32))]) okX40_join rfl rfl rfl rfl rfl rfl (jstp_virtual (sa := [vR 3 r1, vI (x2 + (1 : Int32))]) (st := []) (k := 0) rfl rfl sX40_join okX40_join g_1 (one33.k g_1) rfl rfl) w (fun h_2 _ _ w => ?_)
  exact w_X40_join_106 hK30 w
def W_X40_join_86 (D : JD) (d : Nat) (Q : JO → JH → Prop) (K30 : Nat → Nat → Int32 → Nat → Int32 → Int32 → JH → Prop) (r0 : Nat) (r1 : Nat) (x2 : Int32) (r3 : Nat) (x4 : Int32) (x5 : Int32) (q0 : Nat) (h : JH) : Prop :=
  q0 ≠ 0 ∧ (cX14_isTrue D d q0 h (pI D h (fun v_4 h_2 => (¬ v_4 = 0 → W_X40_join_95 D d Q K30 r0 r1 x2 r3 x5 h_2) ∧ (v_4 = 0 → W_X40_join_106 D d Q K30 r0 r1 x2 r3 x4 x5 h_2)) (jth Q)))
theorem w_X40_join_86 {D : JD} {d : Nat} {Q : JO → JH → Prop} {K30 : Nat → Nat → Int32 → Nat → Int32 → Int32 → JH → Prop} {r0 : Nat} {r1 : Nat} {x2 : Int32} {r3 : Nat} {x4 : Int32} {x5 : Int32} {q0 : Nat} {h : JH} (hK30 : ∀ (r0 : Nat) (r1 : Nat) (x2 : Int32) (r3 : Nat) (x4 : Int32) (x5 : Int32) (h : JH), K30 r0 r1 x2 r3 x4 x5 h → JW D (d + 1) mX40_join 30 [some (vR 33 r0), some (vR 3 r1), some (vI x2), some (vR 31 r3), some (vI x4), some (vI x5)] [] h Q) (w : W_X40_join_86 D d Q K30 r0 r1 x2 r3 x4 x5 q0 h) : JW D (d + 1) mX40_join 86 [some (vR 33 r0), some (vR 3 r1), some (vI x2), some (vR 31 r3), some (vI x4), some (vI x5)] [vR 8 q0] h Q := by
  unfold W_X40_join_86 at w
  obtain ⟨g_1, w⟩ := w
  refine jw_cI (st := []) (sa := [vR 8 q0]) okX14_isTrue rfl rfl rfl rfl rfl rfl (jstp_virtual (sa := []) (st := []) (k := 0) rfl rfl sX14_isTrue okX14_isTrue g_1 (one8.k g_1) rfl rfl) w (fun v_4 h_2 _ _ w => ?_)
  refine jw_if_ne (tgt := 95) (pc' := 92) rfl rfl (fun c_5 => ?_) (fun c_5 => ?_)
  · replace w := w.1 c_5
    refine jw_gen (ls' := [some (vR 33 r0), some (vR 3 r1), some (vI x2), some (vR 31 r3), none, some (vI x5)]) (st' := []) (And.intro (Or.inl rfl) (And.intro (Or.inl rfl) (And.intro (Or.inl rfl) (And.intro (Or.inl rfl) (And.intro (Or.inl rfl) (trivial)))))) (trivial) ?_
    exact w_X40_join_95 hK30 w
  · replace w := w.2 c_5
    refine jw_goto (pc' := 106) rfl rfl ?_
    exact w_X40_join_106 hK30 w
def W_X40_join_30 (D : JD) (d : Nat) (Q : JO → JH → Prop) (K30 : Nat → Nat → Int32 → Nat → Int32 → Int32 → JH → Prop) (r0 : Nat) (r1 : Nat) (x2 : Int32) (r3 : Nat) (x4 : Int32) (x5 : Int32) (h : JH) : Prop :=
  r3 ≠ 0 ∧ ((jfr h 138 r3) ≠ 0 ∧ (((jfi h 46 (jfr h 138 r3)) ≤ x5 → ((jfi h 139 r3) = 0 → W_X40_join_124 D d Q h) ∧ (¬ (jfi h 139 r3) = 0 → (x4 = 0 → r1 ≠ 0 ∧ ((jfr h 25 r1) ≠ 0 ∧ jin x2 (jln h (jfr h 25 r1)) ∧ ∀ h_9 : JH, h_9 = wai h (jfr h 25 r1) (ixn x2) (-1 : Int32) → ((jfr h_9 23 r1) ≠ 0 ∧ ((jfr h_9 56 (jfr h_9 23 r1)) ≠ 0 ∧ jin x2 (jln h_9 (jfr h_9 56 (jfr h_9 23 r1))) ∧ ∀ h_14 : JH, h_14 = war h_9 (jfr h_9 56 (jfr h_9 23 r1)) (ixn x2) 0 → (r0 ≠ 0 ∧ (cX40_join D d r0 r1 (x2 + (1 : Int32)) h_14 (pV D h_14 (fun h_17 => Q (.inl none) h_17) (jth Q)))))))) ∧ (¬ x4 = 0 → W_X40_join_124 D d Q h))) ∧ (¬ (jfi h 46 (jfr h 138 r3)) ≤ x5 → r1 ≠ 0 ∧ ((jfr h 25 r1) ≠ 0 ∧ jin x2 (jln h (jfr h 25 r1)) ∧ ∀ h_23 : JH, h_23 = wai h (jfr h 25 r1) (ixn x2) x5 → ((jfr h_23 23 r1) ≠ 0 ∧ ((jfr h_23 138 r3) ≠ 0 ∧ (cX5_row D d (jfr h_23 138 r3) x5 h_23 (pR D h_23 76 (fun v_29 h_27 => (jfr h_23 56 (jfr h_23 23 r1)) ≠ 0 ∧ jin x2 (jln h_27 (jfr h_23 56 (jfr h_23 23 r1))) ∧ ∀ h_32 : JH, h_32 = war h_27 (jfr h_23 56 (jfr h_23 23 r1)) (ixn x2) v_29 → (((jfr h_32 140 r3) = 0 → W_X40_join_95 D d Q K30 r0 r1 x2 r3 x5 h_32) ∧ ((jfr h_32 140 r3) ≠ 0 → v55_at D d (jfr h_32 140 r3) (jfr h_32 23 r1) h_32 (pR D h_32 8 (fun v_37 h_35 => W_X40_join_86 D d Q K30 r0 r1 x2 r3 x4 x5 v_37 h_35) (jth Q))))) (jth Q)))))))))
theorem w_X40_join_30 {D : JD} {d : Nat} {Q : JO → JH → Prop} {K30 : Nat → Nat → Int32 → Nat → Int32 → Int32 → JH → Prop} {r0 : Nat} {r1 : Nat} {x2 : Int32} {r3 : Nat} {x4 : Int32} {x5 : Int32} {h : JH} (hK30 : ∀ (r0 : Nat) (r1 : Nat) (x2 : Int32) (r3 : Nat) (x4 : Int32) (x5 : Int32) (h : JH), K30 r0 r1 x2 r3 x4 x5 h → JW D (d + 1) mX40_join 30 [some (vR 33 r0), some (vR 3 r1), some (vI x2), some (vR 31 r3), some (vI x4), some (vI x5)] [] h Q) (w : W_X40_join_30 D d Q K30 r0 r1 x2 r3 x4 x5 h) : JW D (d + 1) mX40_join 30 [some (vR 33 r0), some (vR 3 r1), some (vI x2), some (vR 31 r3), some (vI x4), some (vI x5)] [] h Q := by
  unfold W_X40_join_30 at w
  refine jw_iload (pc' := 32) rfl rfl ?_
  refine jw_aload_n (pc' := 33) rfl rfl ?_
  obtain ⟨g_1, w⟩ := w
  refine jw_getR (pc' := 36) (F := 138) (t' := 5) rfl rfl rfl rfl rfl g_1 ?_
  obtain ⟨g_2, w⟩ := w
  refine jw_getI (pc' := 39) (F := 46) rfl rfl rfl rfl g_2 ?_
  refine jw_icmp_ge (tgt := 112) (pc' := 42) rfl rfl (fun c_3 => ?_) (fun c_3 => ?_)
  · replace w := w.1 c_3
    refine jw_aload_n (pc' := 113) rfl rfl ?_
    refine jw_getI (pc' := 116) (F := 139) rfl rfl rfl rfl g_1 ?_
    refine jw_if_eq (tgt := 124) (pc' := 119) rfl rfl (fun c_4 => ?_) (fun c_4 => ?_)
    · replace w := w.1 c_4
      refine jw_gen (ls' := [none, none, none, none, none, none]) (st' := []) (trivial) (trivial) ?_
      exact w_X40_join_124 w
    · replace w := w.2 c_4
      refine jw_iload (pc' := 121) rfl rfl ?_
      refine jw_if_eq (tgt := 125) (pc' := 124) rfl rfl (fun c_5 => ?_) (fun c_5 => ?_)
      · replace w := w.1 c_5
        refine jw_aload_n (pc' := 126) rfl rfl ?_
        obtain ⟨g_6, w⟩ := w
        refine jw_getR (pc' := 129) (F := 25) (t' := 129) rfl rfl rfl rfl rfl g_6 ?_
        refine jw_iload_n (pc' := 130) rfl rfl ?_
        refine jw_iconst (pc' := 131) (x := (-1 : Int32)) rfl rfl ?_
        obtain ⟨g_7, w⟩ := w
        obtain ⟨g_8, w⟩ := w
        refine jw_iast' (pc' := 132) rfl rfl rfl rfl rfl g_7 g_8 (fun h_9 e_10 => ?_)
        replace w := w h_9 e_10
        refine jw_aload_n (pc' := 133) rfl rfl ?_
        refine jw_getR (pc' := 136) (F := 23) (t' := 6) rfl rfl rfl rfl rfl g_6 ?_
        obtain ⟨g_11, w⟩ := w
        refine jw_getR (pc' := 139) (F := 56) (t' := 142) rfl rfl rfl rfl rfl g_11 ?_
        refine jw_iload_n (pc' := 140) rfl rfl ?_
        refine jw_null (pc' := 141) (t := 76) rfl ?_
        obtain ⟨g_12, w⟩ := w
        obtain ⟨g_13, w⟩ := w
        refine jw_aast' (pc' := 142) rfl rfl rfl rfl rfl rfl g_12 g_13 (fun h_14 e_15 => ?_)
        replace w := w h_14 e_15
        refine jw_aload_n (pc' := 143) rfl rfl ?_
        refine jw_aload_n (pc' := 144) rfl rfl ?_
        refine jw_iload_n (pc' := 145) rfl rfl ?_
        refine jw_iconst (pc' := 146) (x := (1 : Int32)) rfl rfl ?_
        refine jw_iadd (pc' := 147) rfl ?_
        obtain ⟨g_16, w⟩ := w
        refine jw_cV (st := []) (sa := [vR 33 r0, vR 3 r1, vI (x2 + (1 : Int32))]) okX40_join rfl rfl rfl rfl rfl rfl (jstp_virtual (sa := [vR 3 r1, vI (x2 + (1 : Int32))]) (st := []) (k := 0) rfl rfl sX40_join okX40_join g_16 (one33.k g_16) rfl rfl) w (fun h_17 _ _ w => ?_)
        exact jw_return rfl rfl w
      · replace w := w.2 c_5
        refine jw_gen (ls' := [none, none, none, none, none, none]) (st' := []) (trivial) (trivial) ?_
        exact w_X40_join_124 w
  · replace w := w.2 c_3
    refine jw_aload_n (pc' := 43) rfl rfl ?_
    obtain ⟨g_20, w⟩ := w
    refine jw_getR (pc' := 46) (F := 25) (t' := 129) rfl rfl rfl rfl rfl g_20 ?_
    refine jw_iload_n (pc' := 47) rfl rfl ?_
    refine jw_iload (pc' := 49) rfl rfl ?_
    obtain ⟨g_21, w⟩ := w
    obtain ⟨g_22, w⟩ := w
    refine jw_iast' (pc' := 50) rfl rfl rfl rfl rfl g_21 g_22 (fun h_23 e_24 => ?_)
    replace w := w h_23 e_24
    refine jw_aload_n (pc' := 51) rfl rfl ?_
    refine jw_getR (pc' := 54) (F := 23) (t' := 6) rfl rfl rfl rfl rfl g_20 ?_
    obtain ⟨g_25, w⟩ := w
    refine jw_getR (pc' := 57) (F := 56) (t' := 142) rfl rfl rfl rfl rfl g_25 ?_
    refine jw_iload_n (pc' := 58) rfl rfl ?_
    refine jw_aload_n (pc' := 59) rfl rfl ?_
    refine jw_getR (pc' := 62) (F := 138) (t' := 5) rfl rfl rfl rfl rfl g_1 ?_
    refine jw_iload (pc' := 64) rfl rfl ?_
    obtain ⟨g_26, w⟩ := w
    refine jw_cR (st := [vI x2, vR 142 (jfr h_23 56 (jfr h_23 23 r1))]) (sa := [vR 5 (jfr h_23 138 r3), vI x5]) okX5_row rfl rfl rfl rfl rfl rfl (jstp_virtual (sa := [vI x5]) (st := [vI x2, vR 142 (jfr h_23 56 (jfr h_23 23 r1))]) (k := 0) rfl rfl sX5_row okX5_row g_26 (one5.k g_26) rfl rfl) w (fun v_29 h_27 _ _ _ w => ?_)
    obtain ⟨g_30, w⟩ := w
    obtain ⟨g_31, w⟩ := w
    refine jw_aast' (pc' := 68) rfl rfl rfl rfl rfl rfl g_30 g_31 (fun h_32 e_33 => ?_)
    replace w := w h_32 e_33
    refine jw_aload_n (pc' := 69) rfl rfl ?_
    refine jw_getR (pc' := 72) (F := 140) (t' := 55) rfl rfl rfl rfl rfl g_1 ?_
    refine jw_ifnull (tgt := 95) (pc' := 75) rfl rfl (fun c_34 => ?_) (fun c_34 => ?_)
    · replace w := w.1 c_34
      refine jw_gen (ls' := [some (vR 33 r0), some (vR 3 r1), some (vI x2), some (vR 31 r3), none, some (vI x5)]) (st' := []) (And.intro (Or.inl rfl) (And.intro (Or.inl rfl) (And.intro (Or.inl rfl) (And.intro (Or.inl rfl) (And.intro (Or.inl rfl) (trivial)))))) (trivial) ?_
      exact w_X40_join_95 hK30 w
    · replace w := w.2 c_34
      refine jw_aload_n (pc' := 76) rfl rfl ?_
      refine jw_getR (pc' := 79) (F := 140) (t' := 55) rfl rfl rfl rfl rfl g_1 ?_
      refine jw_aload_n (pc' := 80) rfl rfl ?_
      refine jw_getR (pc' := 83) (F := 23) (t' := 6) rfl rfl rfl rfl rfl g_20 ?_
      refine JW.inv (fun hI => JW.oks (fun ho => ?_))
      have hkd := und55.k hI (ho (vR 55 (jfr h_32 140 r3)) (by simp)) c_34
      simp only [List.mem_cons, List.not_mem_nil, or_false] at hkd
      clear ho hI
      rcases hkd with e_38 | e_38 | e_38 | e_38 | e_38 | e_38 | e_38 | e_38 | e_38 | e_38
      · refine jw_gen (ls' := _) (st' := [vR 6 (jfr h_32 23 r1), vR 20 (jfr h_32 140 r3)]) (jgl_rf _ _) (And.intro (Or.inl rfl) (And.intro (Or.inr ⟨_, _, _, rfl, rfl, Or.inr (Or.inr (by rw [e_38]; rfl))⟩) (jgs_rf _ _))) ?_
        refine jw_cR (st := []) (sa := [vR 20 (jfr h_32 140 r3), vR 6 (jfr h_32 23 r1)]) okX25_at rfl rfl rfl rfl rfl rfl (jstp_up (sa := [vR 6 (jfr h_32 23 r1)]) (st := []) rfl (lw_g (jtb_mem (c := 12) (i := 233) rfl) rfl) um28 okX25_at c_34 (fun _ _ => by rw [e_38]; exact ⟨rfl, rfl⟩) rfl rfl) (w.1 e_38) (fun v_37 h_35 _ _ _ w => ?_)
        exact w_X40_join_86 hK30 w
      · refine jw_gen (ls' := _) (st' := [vR 6 (jfr h_32 23 r1), vR 21 (jfr h_32 140 r3)]) (jgl_rf _ _) (And.intro (Or.inl rfl) (And.intro (Or.inr ⟨_, _, _, rfl, rfl, Or.inr (Or.inr (by rw [e_38]; rfl))⟩) (jgs_rf _ _))) ?_
        refine jw_cR (st := []) (sa := [vR 21 (jfr h_32 140 r3), vR 6 (jfr h_32 23 r1)]) okX27_at rfl rfl rfl rfl rfl rfl (jstp_up (sa := [vR 6 (jfr h_32 23 r1)]) (st := []) rfl (lw_g (jtb_mem (c := 12) (i := 233) rfl) rfl) um29 okX27_at c_34 (fun _ _ => by rw [e_38]; exact ⟨rfl, rfl⟩) rfl rfl) (w.2.1 e_38) (fun v_37 h_35 _ _ _ w => ?_)
        exact w_X40_join_86 hK30 w
      · refine jw_gen (ls' := _) (st' := [vR 6 (jfr h_32 23 r1), vR 22 (jfr h_32 140 r3)]) (jgl_rf _ _) (And.intro (Or.inl rfl) (And.intro (Or.inr ⟨_, _, _, rfl, rfl, Or.inr (Or.inr (by rw [e_38]; rfl))⟩) (jgs_rf _ _))) ?_
        refine jw_cR (st := []) (sa := [vR 22 (jfr h_32 140 r3), vR 6 (jfr h_32 23 r1)]) okX28_at rfl rfl rfl rfl rfl rfl (jstp_up (sa := [vR 6 (jfr h_32 23 r1)]) (st := []) rfl (lw_g (jtb_mem (c := 12) (i := 233) rfl) rfl) um30 okX28_at c_34 (fun _ _ => by rw [e_38]; exact ⟨rfl, rfl⟩) rfl rfl) (w.2.2.1 e_38) (fun v_37 h_35 _ _ _ w => ?_)
        exact w_X40_join_86 hK30 w
      · refine jw_gen (ls' := _) (st' := [vR 6 (jfr h_32 23 r1), vR 23 (jfr h_32 140 r3)]) (jgl_rf _ _) (And.intro (Or.inl rfl) (And.intro (Or.inr ⟨_, _, _, rfl, rfl, Or.inr (Or.inr (by rw [e_38]; rfl))⟩) (jgs_rf _ _))) ?_
        refine jw_cR (st := []) (sa := [vR 23 (jfr h_32 140 r3), vR 6 (jfr h_32 23 r1)]) okX29_at rfl rfl rfl rfl rfl rfl (jstp_up (sa := [vR 6 (jfr h_32 23 r1)]) (st := []) rfl (lw_g (jtb_mem (c := 12) (i := 233) rfl) rfl) um31 okX29_at c_34 (fun _ _ => by rw [e_38]; exact ⟨rfl, rfl⟩) rfl rfl) (w.2.2.2.1 e_38) (fun v_37 h_35 _ _ _ w => ?_)
        exact w_X40_join_86 hK30 w
      · refine jw_gen (ls' := _) (st' := [vR 6 (jfr h_32 23 r1), vR 24 (jfr h_32 140 r3)]) (jgl_rf _ _) (And.intro (Or.inl rfl) (And.intro (Or.inr ⟨_, _, _, rfl, rfl, Or.inr (Or.inr (by rw [e_38]; rfl))⟩) (jgs_rf _ _))) ?_
        refine jw_cR (st := []) (sa := [vR 24 (jfr h_32 140 r3), vR 6 (jfr h_32 23 r1)]) okX30_at rfl rfl rfl rfl rfl rfl (jstp_up (sa := [vR 6 (jfr h_32 23 r1)]) (st := []) rfl (lw_g (jtb_mem (c := 12) (i := 233) rfl) rfl) um32 okX30_at c_34 (fun _ _ => by rw [e_38]; exact ⟨rfl, rfl⟩) rfl rfl) (w.2.2.2.2.1 e_38) (fun v_37 h_35 _ _ _ w => ?_)
        exact w_X40_join_86 hK30 w
      · refine jw_gen (ls' := _) (st' := [vR 6 (jfr h_32 23 r1), vR 25 (jfr h_32 140 r3)]) (jgl_rf _ _) (And.intro (Or.inl rfl) (And.intro (Or.inr ⟨_, _, _, rfl, rfl, Or.inr (Or.inr (by rw [e_38]; rfl))⟩) (jgs_rf _ _))) ?_
        refine jw_cR (st := []) (sa := [vR 25 (jfr h_32 140 r3), vR 6 (jfr h_32 23 r1)]) okX31_at rfl rfl rfl rfl rfl rfl (jstp_up (sa := [vR 6 (jfr h_32 23 r1)]) (st := []) rfl (lw_g (jtb_mem (c := 12) (i := 233) rfl) rfl) um33 okX31_at c_34 (fun _ _ => by rw [e_38]; exact ⟨rfl, rfl⟩) rfl rfl) (w.2.2.2.2.2.1 e_38) (fun v_37 h_35 _ _ _ w => ?_)
        exact w_X40_join_86 hK30 w
      · refine jw_gen (ls' := _) (st' := [vR 6 (jfr h_32 23 r1), vR 26 (jfr h_32 140 r3)]) (jgl_rf _ _) (And.intro (Or.inl rfl) (And.intro (Or.inr ⟨_, _, _, rfl, rfl, Or.inr (Or.inr (by rw [e_38]; rfl))⟩) (jgs_rf _ _))) ?_
        refine jw_cR (st := []) (sa := [vR 26 (jfr h_32 140 r3), vR 6 (jfr h_32 23 r1)]) okX32_at rfl rfl rfl rfl rfl rfl (jstp_up (sa := [vR 6 (jfr h_32 23 r1)]) (st := []) rfl (lw_g (jtb_mem (c := 12) (i := 233) rfl) rfl) um34 okX32_at c_34 (fun _ _ => by rw [e_38]; exact ⟨rfl, rfl⟩) rfl rfl) (w.2.2.2.2.2.2.1 e_38) (fun v_37 h_35 _ _ _ w => ?_)
        exact w_X40_join_86 hK30 w
      · refine jw_gen (ls' := _) (st' := [vR 6 (jfr h_32 23 r1), vR 27 (jfr h_32 140 r3)]) (jgl_rf _ _) (And.intro (Or.inl rfl) (And.intro (Or.inr ⟨_, _, _, rfl, rfl, Or.inr (Or.inr (by rw [e_38]; rfl))⟩) (jgs_rf _ _))) ?_
        refine jw_cR (st := []) (sa := [vR 27 (jfr h_32 140 r3), vR 6 (jfr h_32 23 r1)]) okX33_at rfl rfl rfl rfl rfl rfl (jstp_up (sa := [vR 6 (jfr h_32 23 r1)]) (st := []) rfl (lw_g (jtb_mem (c := 12) (i := 233) rfl) rfl) um35 okX33_at c_34 (fun _ _ => by rw [e_38]; exact ⟨rfl, rfl⟩) rfl rfl) (w.2.2.2.2.2.2.2.1 e_38) (fun v_37 h_35 _ _ _ w => ?_)
        exact w_X40_join_86 hK30 w
      · refine jw_gen (ls' := _) (st' := [vR 6 (jfr h_32 23 r1), vR 28 (jfr h_32 140 r3)]) (jgl_rf _ _) (And.intro (Or.inl rfl) (And.intro (Or.inr ⟨_, _, _, rfl, rfl, Or.inr (Or.inr (by rw [e_38]; rfl))⟩) (jgs_rf _ _))) ?_
        refine jw_cR (st := []) (sa := [vR 28 (jfr h_32 140 r3), vR 6 (jfr h_32 23 r1)]) okX34_at rfl rfl rfl rfl rfl rfl (jstp_up (sa := [vR 6 (jfr h_32 23 r1)]) (st := []) rfl (lw_g (jtb_mem (c := 12) (i := 233) rfl) rfl) um36 okX34_at c_34 (fun _ _ => by rw [e_38]; exact ⟨rfl, rfl⟩) rfl rfl) (w.2.2.2.2.2.2.2.2.1 e_38) (fun v_37 h_35 _ _ _ w => ?_)
        exact w_X40_join_86 hK30 w
      · refine jw_gen (ls' := _) (st' := [vR 6 (jfr h_32 23 r1), vR 29 (jfr h_32 140 r3)]) (jgl_rf _ _) (And.intro (Or.inl rfl) (And.intro (Or.inr ⟨_, _, _, rfl, rfl, Or.inr (Or.inr (by rw [e_38]; rfl))⟩) (jgs_rf _ _))) ?_
        refine jw_cR (st := []) (sa := [vR 29 (jfr h_32 140 r3), vR 6 (jfr h_32 23 r1)]) okX35_at rfl rfl rfl rfl rfl rfl (jstp_up (sa := [vR 6 (jfr h_32 23 r1)]) (st := []) rfl (lw_g (jtb_mem (c := 12) (i := 233) rfl) rfl) um37 okX35_at c_34 (fun _ _ => by rw [e_38]; exact ⟨rfl, rfl⟩) rfl rfl) (w.2.2.2.2.2.2.2.2.2 e_38) (fun v_37 h_35 _ _ _ w => ?_)
        exact w_X40_join_86 hK30 w
def L_X40_join_30 (D : JD) (d : Nat) (Q : JO → JH → Prop) : Nat → Nat → Nat → Int32 → Nat → Int32 → Int32 → JH → Prop
  | 0 => fun _ _ _ _ _ _ _ => False
  | n + 1 => fun r0 r1 x2 r3 x4 x5 h => W_X40_join_30 D d Q (L_X40_join_30 D d Q n) r0 r1 x2 r3 x4 x5 h
theorem l_X40_join_30 {D : JD} {d : Nat} {Q : JO → JH → Prop} : ∀ (n : Nat) (r0 : Nat) (r1 : Nat) (x2 : Int32) (r3 : Nat) (x4 : Int32) (x5 : Int32) (h : JH), L_X40_join_30 D d Q n r0 r1 x2 r3 x4 x5 h → JW D (d + 1) mX40_join 30 [some (vR 33 r0), some (vR 3 r1), some (vI x2), some (vR 31 r3), some (vI x4), some (vI x5)] [] h Q := by
  intro n
  induction n with
  | zero => intro _ _ _ _ _ _ _ w; exact w.elim
  | succ n ih => intro _ _ _ _ _ _ h w; exact w_X40_join_30 ih w
def W_X40_join_0 (D : JD) (d : Nat) (Q : JO → JH → Prop) (r0 : Nat) (r1 : Nat) (x2 : Int32) (h : JH) : Prop :=
  r0 ≠ 0 ∧ ((¬ x2 = (jfi h 145 r0) → (jfr h 144 r0) ≠ 0 ∧ jin x2 (jln h (jfr h 144 r0)) ∧ (∃ n, L_X40_join_30 D d Q n r0 r1 x2 (jar h (jfr h 144 r0) (ixn x2)) (0 : Int32) (0 : Int32) h)) ∧ (x2 = (jfi h 145 r0) → r1 ≠ 0 ∧ (cX3_tuple D d r1 (jfi h 145 r0) h (pV D h (fun h_6 => Q (.inl none) h_6) (jth Q)))))
theorem w_X40_join_0 {D : JD} {d : Nat} {Q : JO → JH → Prop} {r0 : Nat} {r1 : Nat} {x2 : Int32} {h : JH} (w : W_X40_join_0 D d Q r0 r1 x2 h) : JW D (d + 1) mX40_join 0 [some (vR 33 r0), some (vR 3 r1), some (vI x2), none, none, none] [] h Q := by
  unfold W_X40_join_0 at w
  refine jw_iload_n (pc' := 1) rfl rfl ?_
  refine jw_aload_n (pc' := 2) rfl rfl ?_
  obtain ⟨g_1, w⟩ := w
  refine jw_getI (pc' := 5) (F := 145) rfl rfl rfl rfl g_1 ?_
  refine jw_icmp_ne (tgt := 17) (pc' := 8) rfl rfl (fun c_2 => ?_) (fun c_2 => ?_)
  · replace w := w.1 c_2
    refine jw_aload_n (pc' := 18) rfl rfl ?_
    refine jw_getR (pc' := 21) (F := 144) (t' := 153) rfl rfl rfl rfl rfl g_1 ?_
    refine jw_iload_n (pc' := 22) rfl rfl ?_
    obtain ⟨g_3, w⟩ := w
    obtain ⟨g_4, w⟩ := w
    refine jw_aald (pc' := 23) (t' := 31) rfl rfl rfl rfl g_3 g_4.ix g_4.2 ?_
    refine jw_astore_n (pc' := 24) (ls' := [some (vR 33 r0), some (vR 3 r1), some (vI x2), some (vR 31 (jar h (jfr h 144 r0) (ixn x2))), none, none]) rfl (by decide) rfl ?_
    refine jw_iconst (pc' := 25) (x := (0 : Int32)) rfl rfl ?_
    refine jw_istore (pc' := 27) (ls' := [some (vR 33 r0), some (vR 3 r1), some (vI x2), some (vR 31 (jar h (jfr h 144 r0) (ixn x2))), some (vI (0 : Int32)), none]) rfl (by decide) rfl ?_
    refine jw_iconst (pc' := 28) (x := (0 : Int32)) rfl rfl ?_
    refine jw_istore (pc' := 30) (ls' := [some (vR 33 r0), some (vR 3 r1), some (vI x2), some (vR 31 (jar h (jfr h 144 r0) (ixn x2))), some (vI (0 : Int32)), some (vI (0 : Int32))]) rfl (by decide) rfl ?_
    obtain ⟨n, w⟩ := w
    exact l_X40_join_30 n _ _ _ _ _ _ _ w
  · replace w := w.2 c_2
    refine jw_aload_n (pc' := 9) rfl rfl ?_
    refine jw_aload_n (pc' := 10) rfl rfl ?_
    refine jw_getI (pc' := 13) (F := 145) rfl rfl rfl rfl g_1 ?_
    obtain ⟨g_5, w⟩ := w
    refine jw_cV (st := []) (sa := [vR 3 r1, vI (jfi h 145 r0)]) okX3_tuple rfl rfl rfl rfl rfl rfl (jstp_virtual (sa := [vI (jfi h 145 r0)]) (st := []) (k := 0) rfl rfl sX3_tuple okX3_tuple g_5 (one3.k g_5) rfl rfl) w (fun h_6 _ _ w => ?_)
    exact jw_return rfl rfl w
def T_X40_join (D : JD) (d : Nat) (Q : JO → JH → Prop) (r0 : Nat) (r1 : Nat) (x2 : Int32) (h : JH) : Prop := W_X40_join_0 D d Q r0 r1 x2 h
theorem t_X40_join {D : JD} {d : Nat} {Q : JO → JH → Prop} {r0 : Nat} {r1 : Nat} {x2 : Int32} {h : JH} (w : T_X40_join D d Q r0 r1 x2 h) : cX40_join D (d + 1) r0 r1 x2 h Q := by
  unfold T_X40_join at w
  unfold cX40_join
  exact w_X40_join_0 w
def W_X40_filter_88 (D : JD) (d : Nat) (Q : JO → JH → Prop) (K12 : Nat → Nat → Int32 → Int32 → JH → Prop) (r0 : Nat) (r1 : Nat) (x2 : Int32) (x3 : Int32) (h : JH) : Prop :=
  K12 r0 r1 x2 (x3 + (1 : Int32)) h
theorem w_X40_filter_88 {D : JD} {d : Nat} {Q : JO → JH → Prop} {K12 : Nat → Nat → Int32 → Int32 → JH → Prop} {r0 : Nat} {r1 : Nat} {x2 : Int32} {x3 : Int32} {h : JH} (hK12 : ∀ (r0 : Nat) (r1 : Nat) (x2 : Int32) (x3 : Int32) (h : JH), K12 r0 r1 x2 x3 h → JW D (d + 1) mX40_filter 12 [some (vR 33 r0), some (vR 3 r1), some (vI x2), some (vI x3), none] [] h Q) (w : W_X40_filter_88 D d Q K12 r0 r1 x2 x3 h) : JW D (d + 1) mX40_filter 88 [some (vR 33 r0), some (vR 3 r1), some (vI x2), some (vI x3), none] [] h Q := by
  unfold W_X40_filter_88 at w
  refine jw_iinc (pc' := 91) (y := x3 + (1 : Int32)) (ls' := [some (vR 33 r0), some (vR 3 r1), some (vI x2), some (vI (x3 + (1 : Int32))), none]) rfl (by decide) rfl rfl rfl ?_
  refine jw_goto (pc' := 12) rfl rfl ?_
  exact hK12 _ _ _ _ _ w
def W_X40_filter_51 (D : JD) (d : Nat) (Q : JO → JH → Prop) (K12 : Nat → Nat → Int32 → Int32 → JH → Prop) (K51 : Nat → Nat → Int32 → Int32 → Int32 → JH → Prop) (r0 : Nat) (r1 : Nat) (x2 : Int32) (x3 : Int32) (x4 : Int32) (h : JH) : Prop :=
  ((3 : Int32) ≤ x4 → W_X40_filter_88 D d Q K12 r0 r1 (x2 + (1 : Int32)) x3 h) ∧ (¬ (3 : Int32) ≤ x4 → r1 ≠ 0 ∧ ((jfr h 22 r1) ≠ 0 ∧ jin (((3 : Int32) * x3) + x4) (jln h (jfr h 22 r1)) ∧ (jin (((3 : Int32) * x2) + x4) (jln h (jfr h 22 r1)) ∧ ∀ h_6 : JH, h_6 = wai h (jfr h 22 r1) (ixn (((3 : Int32) * x2) + x4)) (jai h (jfr h 22 r1) (ixn (((3 : Int32) * x3) + x4))) → (K51 r0 r1 x2 x3 (x4 + (1 : Int32)) h_6))))
theorem w_X40_filter_51 {D : JD} {d : Nat} {Q : JO → JH → Prop} {K12 : Nat → Nat → Int32 → Int32 → JH → Prop} {K51 : Nat → Nat → Int32 → Int32 → Int32 → JH → Prop} {r0 : Nat} {r1 : Nat} {x2 : Int32} {x3 : Int32} {x4 : Int32} {h : JH} (hK12 : ∀ (r0 : Nat) (r1 : Nat) (x2 : Int32) (x3 : Int32) (h : JH), K12 r0 r1 x2 x3 h → JW D (d + 1) mX40_filter 12 [some (vR 33 r0), some (vR 3 r1), some (vI x2), some (vI x3), none] [] h Q) (hK51 : ∀ (r0 : Nat) (r1 : Nat) (x2 : Int32) (x3 : Int32) (x4 : Int32) (h : JH), K51 r0 r1 x2 x3 x4 h → JW D (d + 1) mX40_filter 51 [some (vR 33 r0), some (vR 3 r1), some (vI x2), some (vI x3), some (vI x4)] [] h Q) (w : W_X40_filter_51 D d Q K12 K51 r0 r1 x2 x3 x4 h) : JW D (d + 1) mX40_filter 51 [some (vR 33 r0), some (vR 3 r1), some (vI x2), some (vI x3), some (vI x4)] [] h Q := by
  unfold W_X40_filter_51 at w
  refine jw_iload (pc' := 53) rfl rfl ?_
  refine jw_iconst (pc' := 54) (x := (3 : Int32)) rfl rfl ?_
  refine jw_icmp_ge (tgt := 85) (pc' := 57) rfl rfl (fun c_1 => ?_) (fun c_1 => ?_)
  · replace w := w.1 c_1
    refine jw_iinc (pc' := 88) (y := x2 + (1 : Int32)) (ls' := [some (vR 33 r0), some (vR 3 r1), some (vI (x2 + (1 : Int32))), some (vI x3), some (vI x4)]) rfl (by decide) rfl rfl rfl ?_
    refine jw_gen (ls' := [some (vR 33 r0), some (vR 3 r1), some (vI (x2 + (1 : Int32))), some (vI x3), none]) (st' := []) (And.intro (Or.inl rfl) (And.intro (Or.inl rfl) (And.intro (Or.inl rfl) (And.intro (Or.inl rfl) (trivial))))) (trivial) ?_
    exact w_X40_filter_88 hK12 w
  · replace w := w.2 c_1
    refine jw_aload_n (pc' := 58) rfl rfl ?_
    obtain ⟨g_2, w⟩ := w
    refine jw_getR (pc' := 61) (F := 22) (t' := 128) rfl rfl rfl rfl rfl g_2 ?_
    refine jw_iconst (pc' := 62) (x := (3 : Int32)) rfl rfl ?_
    refine jw_iload_n (pc' := 63) rfl rfl ?_
    refine jw_imul (pc' := 64) rfl ?_
    refine jw_iload (pc' := 66) rfl rfl ?_
    refine jw_iadd (pc' := 67) rfl ?_
    refine jw_aload_n (pc' := 68) rfl rfl ?_
    refine jw_getR (pc' := 71) (F := 22) (t' := 128) rfl rfl rfl rfl rfl g_2 ?_
    refine jw_iconst (pc' := 72) (x := (3 : Int32)) rfl rfl ?_
    refine jw_iload_n (pc' := 73) rfl rfl ?_
    refine jw_imul (pc' := 74) rfl ?_
    refine jw_iload (pc' := 76) rfl rfl ?_
    refine jw_iadd (pc' := 77) rfl ?_
    obtain ⟨g_3, w⟩ := w
    obtain ⟨g_4, w⟩ := w
    refine jw_iald (pc' := 78) rfl rfl rfl rfl g_3 g_4.ix g_4.2 ?_
    obtain ⟨g_5, w⟩ := w
    refine jw_iast' (pc' := 79) rfl rfl rfl rfl rfl g_3 g_5 (fun h_6 e_7 => ?_)
    replace w := w h_6 e_7
    refine jw_iinc (pc' := 82) (y := x4 + (1 : Int32)) (ls' := [some (vR 33 r0), some (vR 3 r1), some (vI x2), some (vI x3), some (vI (x4 + (1 : Int32)))]) rfl (by decide) rfl rfl rfl ?_
    refine jw_goto (pc' := 51) rfl rfl ?_
    exact hK51 _ _ _ _ _ _ w
def L_X40_filter_51 (D : JD) (d : Nat) (Q : JO → JH → Prop) (K12 : Nat → Nat → Int32 → Int32 → JH → Prop) : Nat → Nat → Nat → Int32 → Int32 → Int32 → JH → Prop
  | 0 => fun _ _ _ _ _ _ => False
  | n + 1 => fun r0 r1 x2 x3 x4 h => W_X40_filter_51 D d Q K12 (L_X40_filter_51 D d Q K12 n) r0 r1 x2 x3 x4 h
theorem l_X40_filter_51 {D : JD} {d : Nat} {Q : JO → JH → Prop} {K12 : Nat → Nat → Int32 → Int32 → JH → Prop} (hK12 : ∀ (r0 : Nat) (r1 : Nat) (x2 : Int32) (x3 : Int32) (h : JH), K12 r0 r1 x2 x3 h → JW D (d + 1) mX40_filter 12 [some (vR 33 r0), some (vR 3 r1), some (vI x2), some (vI x3), none] [] h Q) : ∀ (n : Nat) (r0 : Nat) (r1 : Nat) (x2 : Int32) (x3 : Int32) (x4 : Int32) (h : JH), L_X40_filter_51 D d Q K12 n r0 r1 x2 x3 x4 h → JW D (d + 1) mX40_filter 51 [some (vR 33 r0), some (vR 3 r1), some (vI x2), some (vI x3), some (vI x4)] [] h Q := by
  intro n
  induction n with
  | zero => intro _ _ _ _ _ _ w; exact w.elim
  | succ n ih => intro _ _ _ _ _ h w; exact w_X40_filter_51 hK12 ih w
def W_X40_filter_39 (D : JD) (d : Nat) (Q : JO → JH → Prop) (K12 : Nat → Nat → Int32 → Int32 → JH → Prop) (r0 : Nat) (r1 : Nat) (x2 : Int32) (x3 : Int32) (q0 : Nat) (h : JH) : Prop :=
  q0 ≠ 0 ∧ (cX14_isTrue D d q0 h (pI D h (fun v_4 h_2 => (¬ v_4 = 0 → ∃ n, L_X40_filter_51 D d Q K12 n r0 r1 x2 x3 (0 : Int32) h_2) ∧ (v_4 = 0 → W_X40_filter_88 D d Q K12 r0 r1 x2 x3 h_2)) (jth Q)))
theorem w_X40_filter_39 {D : JD} {d : Nat} {Q : JO → JH → Prop} {K12 : Nat → Nat → Int32 → Int32 → JH → Prop} {r0 : Nat} {r1 : Nat} {x2 : Int32} {x3 : Int32} {q0 : Nat} {h : JH} (hK12 : ∀ (r0 : Nat) (r1 : Nat) (x2 : Int32) (x3 : Int32) (h : JH), K12 r0 r1 x2 x3 h → JW D (d + 1) mX40_filter 12 [some (vR 33 r0), some (vR 3 r1), some (vI x2), some (vI x3), none] [] h Q) (w : W_X40_filter_39 D d Q K12 r0 r1 x2 x3 q0 h) : JW D (d + 1) mX40_filter 39 [some (vR 33 r0), some (vR 3 r1), some (vI x2), some (vI x3), none] [vR 8 q0] h Q := by
  unfold W_X40_filter_39 at w
  obtain ⟨g_1, w⟩ := w
  refine jw_cI (st := []) (sa := [vR 8 q0]) okX14_isTrue rfl rfl rfl rfl rfl rfl (jstp_virtual (sa := []) (st := []) (k := 0) rfl rfl sX14_isTrue okX14_isTrue g_1 (one8.k g_1) rfl rfl) w (fun v_4 h_2 _ _ w => ?_)
  refine jw_if_ne (tgt := 48) (pc' := 45) rfl rfl (fun c_5 => ?_) (fun c_5 => ?_)
  · replace w := w.1 c_5
    refine jw_iconst (pc' := 49) (x := (0 : Int32)) rfl rfl ?_
    refine jw_istore (pc' := 51) (ls' := [some (vR 33 r0), some (vR 3 r1), some (vI x2), some (vI x3), some (vI (0 : Int32))]) rfl (by decide) rfl ?_
    obtain ⟨n, w⟩ := w
    exact l_X40_filter_51 hK12 n _ _ _ _ _ _ w
  · replace w := w.2 c_5
    refine jw_goto (pc' := 88) rfl rfl ?_
    exact w_X40_filter_88 hK12 w
def W_X40_filter_12 (D : JD) (d : Nat) (Q : JO → JH → Prop) (K12 : Nat → Nat → Int32 → Int32 → JH → Prop) (r0 : Nat) (r1 : Nat) (x2 : Int32) (x3 : Int32) (h : JH) : Prop :=
  r1 ≠ 0 ∧ (((jfi h 24 r1) ≤ x3 → ∀ h_3 : JH, h_3 = wfi h 24 r1 x2 → (Q (.inl none) h_3)) ∧ (¬ (jfi h 24 r1) ≤ x3 → (jfr h 23 r1) ≠ 0 ∧ (cX6_take D d (jfr h 23 r1) x3 h (pV D h (fun h_6 => r0 ≠ 0 ∧ ((jfr h_6 146 r0) ≠ 0 ∧ (v55_at D d (jfr h_6 146 r0) (jfr h_6 23 r1) h_6 (pR D h_6 8 (fun v_13 h_11 => W_X40_filter_39 D d Q K12 r0 r1 x2 x3 v_13 h_11) (jth Q))))) (jth Q)))))
theorem w_X40_filter_12 {D : JD} {d : Nat} {Q : JO → JH → Prop} {K12 : Nat → Nat → Int32 → Int32 → JH → Prop} {r0 : Nat} {r1 : Nat} {x2 : Int32} {x3 : Int32} {h : JH} (hK12 : ∀ (r0 : Nat) (r1 : Nat) (x2 : Int32) (x3 : Int32) (h : JH), K12 r0 r1 x2 x3 h → JW D (d + 1) mX40_filter 12 [some (vR 33 r0), some (vR 3 r1), some (vI x2), some (vI x3), none] [] h Q) (w : W_X40_filter_12 D d Q K12 r0 r1 x2 x3 h) : JW D (d + 1) mX40_filter 12 [some (vR 33 r0), some (vR 3 r1), some (vI x2), some (vI x3), none] [] h Q := by
  unfold W_X40_filter_12 at w
  refine jw_iload_n (pc' := 13) rfl rfl ?_
  refine jw_aload_n (pc' := 14) rfl rfl ?_
  obtain ⟨g_1, w⟩ := w
  refine jw_getI (pc' := 17) (F := 24) rfl rfl rfl rfl g_1 ?_
  refine jw_icmp_ge (tgt := 94) (pc' := 20) rfl rfl (fun c_2 => ?_) (fun c_2 => ?_)
  · replace w := w.1 c_2
    refine jw_aload_n (pc' := 95) rfl rfl ?_
    refine jw_iload_n (pc' := 96) rfl rfl ?_
    refine jw_putI' (pc' := 99) (F := 24) rfl rfl rfl (Or.inr rfl) (Or.inl rfl) rfl (rfl) (rfl) rfl g_1 (fun h_3 e_4 => ?_)
    replace w := w h_3 e_4
    exact jw_return rfl rfl w
  · replace w := w.2 c_2
    refine jw_aload_n (pc' := 21) rfl rfl ?_
    refine jw_getR (pc' := 24) (F := 23) (t' := 6) rfl rfl rfl rfl rfl g_1 ?_
    refine jw_iload_n (pc' := 25) rfl rfl ?_
    obtain ⟨g_5, w⟩ := w
    refine jw_cV (st := []) (sa := [vR 6 (jfr h 23 r1), vI x3]) okX6_take rfl rfl rfl rfl rfl rfl (jstp_virtual (sa := [vI x3]) (st := []) (k := 0) rfl rfl sX6_take okX6_take g_5 (one6.k g_5) rfl rfl) w (fun h_6 _ _ w => ?_)
    refine jw_aload_n (pc' := 29) rfl rfl ?_
    obtain ⟨g_9, w⟩ := w
    refine jw_getR (pc' := 32) (F := 146) (t' := 55) rfl rfl rfl rfl rfl g_9 ?_
    refine jw_aload_n (pc' := 33) rfl rfl ?_
    refine jw_getR (pc' := 36) (F := 23) (t' := 6) rfl rfl rfl rfl rfl g_1 ?_
    obtain ⟨g_10, w⟩ := w
    refine JW.inv (fun hI => JW.oks (fun ho => ?_))
    have hkd := und55.k hI (ho (vR 55 (jfr h_6 146 r0)) (by simp)) g_10
    simp only [List.mem_cons, List.not_mem_nil, or_false] at hkd
    clear ho hI
    rcases hkd with e_14 | e_14 | e_14 | e_14 | e_14 | e_14 | e_14 | e_14 | e_14 | e_14
    · refine jw_gen (ls' := _) (st' := [vR 6 (jfr h_6 23 r1), vR 20 (jfr h_6 146 r0)]) (jgl_rf _ _) (And.intro (Or.inl rfl) (And.intro (Or.inr ⟨_, _, _, rfl, rfl, Or.inr (Or.inr (by rw [e_14]; rfl))⟩) (jgs_rf _ _))) ?_
      refine jw_cR (st := []) (sa := [vR 20 (jfr h_6 146 r0), vR 6 (jfr h_6 23 r1)]) okX25_at rfl rfl rfl rfl rfl rfl (jstp_up (sa := [vR 6 (jfr h_6 23 r1)]) (st := []) rfl (lw_g (jtb_mem (c := 12) (i := 233) rfl) rfl) um28 okX25_at g_10 (fun _ _ => by rw [e_14]; exact ⟨rfl, rfl⟩) rfl rfl) (w.1 e_14) (fun v_13 h_11 _ _ _ w => ?_)
      exact w_X40_filter_39 hK12 w
    · refine jw_gen (ls' := _) (st' := [vR 6 (jfr h_6 23 r1), vR 21 (jfr h_6 146 r0)]) (jgl_rf _ _) (And.intro (Or.inl rfl) (And.intro (Or.inr ⟨_, _, _, rfl, rfl, Or.inr (Or.inr (by rw [e_14]; rfl))⟩) (jgs_rf _ _))) ?_
      refine jw_cR (st := []) (sa := [vR 21 (jfr h_6 146 r0), vR 6 (jfr h_6 23 r1)]) okX27_at rfl rfl rfl rfl rfl rfl (jstp_up (sa := [vR 6 (jfr h_6 23 r1)]) (st := []) rfl (lw_g (jtb_mem (c := 12) (i := 233) rfl) rfl) um29 okX27_at g_10 (fun _ _ => by rw [e_14]; exact ⟨rfl, rfl⟩) rfl rfl) (w.2.1 e_14) (fun v_13 h_11 _ _ _ w => ?_)
      exact w_X40_filter_39 hK12 w
    · refine jw_gen (ls' := _) (st' := [vR 6 (jfr h_6 23 r1), vR 22 (jfr h_6 146 r0)]) (jgl_rf _ _) (And.intro (Or.inl rfl) (And.intro (Or.inr ⟨_, _, _, rfl, rfl, Or.inr (Or.inr (by rw [e_14]; rfl))⟩) (jgs_rf _ _))) ?_
      refine jw_cR (st := []) (sa := [vR 22 (jfr h_6 146 r0), vR 6 (jfr h_6 23 r1)]) okX28_at rfl rfl rfl rfl rfl rfl (jstp_up (sa := [vR 6 (jfr h_6 23 r1)]) (st := []) rfl (lw_g (jtb_mem (c := 12) (i := 233) rfl) rfl) um30 okX28_at g_10 (fun _ _ => by rw [e_14]; exact ⟨rfl, rfl⟩) rfl rfl) (w.2.2.1 e_14) (fun v_13 h_11 _ _ _ w => ?_)
      exact w_X40_filter_39 hK12 w
    · refine jw_gen (ls' := _) (st' := [vR 6 (jfr h_6 23 r1), vR 23 (jfr h_6 146 r0)]) (jgl_rf _ _) (And.intro (Or.inl rfl) (And.intro (Or.inr ⟨_, _, _, rfl, rfl, Or.inr (Or.inr (by rw [e_14]; rfl))⟩) (jgs_rf _ _))) ?_
      refine jw_cR (st := []) (sa := [vR 23 (jfr h_6 146 r0), vR 6 (jfr h_6 23 r1)]) okX29_at rfl rfl rfl rfl rfl rfl (jstp_up (sa := [vR 6 (jfr h_6 23 r1)]) (st := []) rfl (lw_g (jtb_mem (c := 12) (i := 233) rfl) rfl) um31 okX29_at g_10 (fun _ _ => by rw [e_14]; exact ⟨rfl, rfl⟩) rfl rfl) (w.2.2.2.1 e_14) (fun v_13 h_11 _ _ _ w => ?_)
      exact w_X40_filter_39 hK12 w
    · refine jw_gen (ls' := _) (st' := [vR 6 (jfr h_6 23 r1), vR 24 (jfr h_6 146 r0)]) (jgl_rf _ _) (And.intro (Or.inl rfl) (And.intro (Or.inr ⟨_, _, _, rfl, rfl, Or.inr (Or.inr (by rw [e_14]; rfl))⟩) (jgs_rf _ _))) ?_
      refine jw_cR (st := []) (sa := [vR 24 (jfr h_6 146 r0), vR 6 (jfr h_6 23 r1)]) okX30_at rfl rfl rfl rfl rfl rfl (jstp_up (sa := [vR 6 (jfr h_6 23 r1)]) (st := []) rfl (lw_g (jtb_mem (c := 12) (i := 233) rfl) rfl) um32 okX30_at g_10 (fun _ _ => by rw [e_14]; exact ⟨rfl, rfl⟩) rfl rfl) (w.2.2.2.2.1 e_14) (fun v_13 h_11 _ _ _ w => ?_)
      exact w_X40_filter_39 hK12 w
    · refine jw_gen (ls' := _) (st' := [vR 6 (jfr h_6 23 r1), vR 25 (jfr h_6 146 r0)]) (jgl_rf _ _) (And.intro (Or.inl rfl) (And.intro (Or.inr ⟨_, _, _, rfl, rfl, Or.inr (Or.inr (by rw [e_14]; rfl))⟩) (jgs_rf _ _))) ?_
      refine jw_cR (st := []) (sa := [vR 25 (jfr h_6 146 r0), vR 6 (jfr h_6 23 r1)]) okX31_at rfl rfl rfl rfl rfl rfl (jstp_up (sa := [vR 6 (jfr h_6 23 r1)]) (st := []) rfl (lw_g (jtb_mem (c := 12) (i := 233) rfl) rfl) um33 okX31_at g_10 (fun _ _ => by rw [e_14]; exact ⟨rfl, rfl⟩) rfl rfl) (w.2.2.2.2.2.1 e_14) (fun v_13 h_11 _ _ _ w => ?_)
      exact w_X40_filter_39 hK12 w
    · refine jw_gen (ls' := _) (st' := [vR 6 (jfr h_6 23 r1), vR 26 (jfr h_6 146 r0)]) (jgl_rf _ _) (And.intro (Or.inl rfl) (And.intro (Or.inr ⟨_, _, _, rfl, rfl, Or.inr (Or.inr (by rw [e_14]; rfl))⟩) (jgs_rf _ _))) ?_
      refine jw_cR (st := []) (sa := [vR 26 (jfr h_6 146 r0), vR 6 (jfr h_6 23 r1)]) okX32_at rfl rfl rfl rfl rfl rfl (jstp_up (sa := [vR 6 (jfr h_6 23 r1)]) (st := []) rfl (lw_g (jtb_mem (c := 12) (i := 233) rfl) rfl) um34 okX32_at g_10 (fun _ _ => by rw [e_14]; exact ⟨rfl, rfl⟩) rfl rfl) (w.2.2.2.2.2.2.1 e_14) (fun v_13 h_11 _ _ _ w => ?_)
      exact w_X40_filter_39 hK12 w
    · refine jw_gen (ls' := _) (st' := [vR 6 (jfr h_6 23 r1), vR 27 (jfr h_6 146 r0)]) (jgl_rf _ _) (And.intro (Or.inl rfl) (And.intro (Or.inr ⟨_, _, _, rfl, rfl, Or.inr (Or.inr (by rw [e_14]; rfl))⟩) (jgs_rf _ _))) ?_
      refine jw_cR (st := []) (sa := [vR 27 (jfr h_6 146 r0), vR 6 (jfr h_6 23 r1)]) okX33_at rfl rfl rfl rfl rfl rfl (jstp_up (sa := [vR 6 (jfr h_6 23 r1)]) (st := []) rfl (lw_g (jtb_mem (c := 12) (i := 233) rfl) rfl) um35 okX33_at g_10 (fun _ _ => by rw [e_14]; exact ⟨rfl, rfl⟩) rfl rfl) (w.2.2.2.2.2.2.2.1 e_14) (fun v_13 h_11 _ _ _ w => ?_)
      exact w_X40_filter_39 hK12 w
    · refine jw_gen (ls' := _) (st' := [vR 6 (jfr h_6 23 r1), vR 28 (jfr h_6 146 r0)]) (jgl_rf _ _) (And.intro (Or.inl rfl) (And.intro (Or.inr ⟨_, _, _, rfl, rfl, Or.inr (Or.inr (by rw [e_14]; rfl))⟩) (jgs_rf _ _))) ?_
      refine jw_cR (st := []) (sa := [vR 28 (jfr h_6 146 r0), vR 6 (jfr h_6 23 r1)]) okX34_at rfl rfl rfl rfl rfl rfl (jstp_up (sa := [vR 6 (jfr h_6 23 r1)]) (st := []) rfl (lw_g (jtb_mem (c := 12) (i := 233) rfl) rfl) um36 okX34_at g_10 (fun _ _ => by rw [e_14]; exact ⟨rfl, rfl⟩) rfl rfl) (w.2.2.2.2.2.2.2.2.1 e_14) (fun v_13 h_11 _ _ _ w => ?_)
      exact w_X40_filter_39 hK12 w
    · refine jw_gen (ls' := _) (st' := [vR 6 (jfr h_6 23 r1), vR 29 (jfr h_6 146 r0)]) (jgl_rf _ _) (And.intro (Or.inl rfl) (And.intro (Or.inr ⟨_, _, _, rfl, rfl, Or.inr (Or.inr (by rw [e_14]; rfl))⟩) (jgs_rf _ _))) ?_
      refine jw_cR (st := []) (sa := [vR 29 (jfr h_6 146 r0), vR 6 (jfr h_6 23 r1)]) okX35_at rfl rfl rfl rfl rfl rfl (jstp_up (sa := [vR 6 (jfr h_6 23 r1)]) (st := []) rfl (lw_g (jtb_mem (c := 12) (i := 233) rfl) rfl) um37 okX35_at g_10 (fun _ _ => by rw [e_14]; exact ⟨rfl, rfl⟩) rfl rfl) (w.2.2.2.2.2.2.2.2.2 e_14) (fun v_13 h_11 _ _ _ w => ?_)
      exact w_X40_filter_39 hK12 w
def L_X40_filter_12 (D : JD) (d : Nat) (Q : JO → JH → Prop) : Nat → Nat → Nat → Int32 → Int32 → JH → Prop
  | 0 => fun _ _ _ _ _ => False
  | n + 1 => fun r0 r1 x2 x3 h => W_X40_filter_12 D d Q (L_X40_filter_12 D d Q n) r0 r1 x2 x3 h
theorem l_X40_filter_12 {D : JD} {d : Nat} {Q : JO → JH → Prop} : ∀ (n : Nat) (r0 : Nat) (r1 : Nat) (x2 : Int32) (x3 : Int32) (h : JH), L_X40_filter_12 D d Q n r0 r1 x2 x3 h → JW D (d + 1) mX40_filter 12 [some (vR 33 r0), some (vR 3 r1), some (vI x2), some (vI x3), none] [] h Q := by
  intro n
  induction n with
  | zero => intro _ _ _ _ _ w; exact w.elim
  | succ n ih => intro _ _ _ _ h w; exact w_X40_filter_12 ih w
def W_X40_filter_0 (D : JD) (d : Nat) (Q : JO → JH → Prop) (r0 : Nat) (r1 : Nat) (h : JH) : Prop :=
  r0 ≠ 0 ∧ (((jfr h 146 r0) ≠ 0 → ∃ n, L_X40_filter_12 D d Q n r0 r1 (0 : Int32) (0 : Int32) h) ∧ ((jfr h 146 r0) = 0 → Q (.inl none) h))
theorem w_X40_filter_0 {D : JD} {d : Nat} {Q : JO → JH → Prop} {r0 : Nat} {r1 : Nat} {h : JH} (w : W_X40_filter_0 D d Q r0 r1 h) : JW D (d + 1) mX40_filter 0 [some (vR 33 r0), some (vR 3 r1), none, none, none] [] h Q := by
  unfold W_X40_filter_0 at w
  refine jw_aload_n (pc' := 1) rfl rfl ?_
  obtain ⟨g_1, w⟩ := w
  refine jw_getR (pc' := 4) (F := 146) (t' := 55) rfl rfl rfl rfl rfl g_1 ?_
  refine jw_ifnonnull (tgt := 8) (pc' := 7) rfl rfl (fun c_2 => ?_) (fun c_2 => ?_)
  · replace w := w.1 c_2
    refine jw_iconst (pc' := 9) (x := (0 : Int32)) rfl rfl ?_
    refine jw_istore_n (pc' := 10) (ls' := [some (vR 33 r0), some (vR 3 r1), some (vI (0 : Int32)), none, none]) rfl (by decide) rfl ?_
    refine jw_iconst (pc' := 11) (x := (0 : Int32)) rfl rfl ?_
    refine jw_istore_n (pc' := 12) (ls' := [some (vR 33 r0), some (vR 3 r1), some (vI (0 : Int32)), some (vI (0 : Int32)), none]) rfl (by decide) rfl ?_
    obtain ⟨n, w⟩ := w
    exact l_X40_filter_12 n _ _ _ _ _ w
  · replace w := w.2 c_2
    exact jw_return rfl rfl w
def T_X40_filter (D : JD) (d : Nat) (Q : JO → JH → Prop) (r0 : Nat) (r1 : Nat) (h : JH) : Prop := W_X40_filter_0 D d Q r0 r1 h
theorem t_X40_filter {D : JD} {d : Nat} {Q : JO → JH → Prop} {r0 : Nat} {r1 : Nat} {h : JH} (w : T_X40_filter D d Q r0 r1 h) : cX40_filter D (d + 1) r0 r1 h Q := by
  unfold T_X40_filter at w
  unfold cX40_filter
  exact w_X40_filter_0 w
def W_X40_groups_251 (D : JD) (d : Nat) (Q : JO → JH → Prop) (K223 : Nat → Nat → Int32 → Nat → Int32 → JH → Prop) (r0 : Nat) (r1 : Nat) (x3 : Int32) (r4 : Nat) (x5 : Int32) (h : JH) : Prop :=
  K223 r0 r1 x3 r4 (x5 + (1 : Int32)) h
theorem w_X40_groups_251 {D : JD} {d : Nat} {Q : JO → JH → Prop} {K223 : Nat → Nat → Int32 → Nat → Int32 → JH → Prop} {r0 : Nat} {r1 : Nat} {x3 : Int32} {r4 : Nat} {x5 : Int32} {h : JH} (hK223 : ∀ (r0 : Nat) (r1 : Nat) (x3 : Int32) (r4 : Nat) (x5 : Int32) (h : JH), K223 r0 r1 x3 r4 x5 h → JW D (d + 1) mX40_groups 223 [some (vR 33 r0), some (vR 3 r1), none, some (vI x3), some (vR 71 r4), some (vI x5), none] [] h Q) (w : W_X40_groups_251 D d Q K223 r0 r1 x3 r4 x5 h) : JW D (d + 1) mX40_groups 251 [some (vR 33 r0), some (vR 3 r1), none, some (vI x3), some (vR 71 r4), some (vI x5), none] [] h Q := by
  unfold W_X40_groups_251 at w
  refine jw_iinc (pc' := 254) (y := x5 + (1 : Int32)) (ls' := [some (vR 33 r0), some (vR 3 r1), none, some (vI x3), some (vR 71 r4), some (vI (x5 + (1 : Int32))), none]) rfl (by decide) rfl rfl rfl ?_
  refine jw_goto (pc' := 223) rfl rfl ?_
  exact hK223 _ _ _ _ _ _ w
def W_X40_groups_223 (D : JD) (d : Nat) (Q : JO → JH → Prop) (K223 : Nat → Nat → Int32 → Nat → Int32 → JH → Prop) (r0 : Nat) (r1 : Nat) (x3 : Int32) (r4 : Nat) (x5 : Int32) (h : JH) : Prop :=
  (x3 ≤ x5 → Q (.inl none) h) ∧ (¬ x3 ≤ x5 → r4 ≠ 0 ∧ jin x5 (jln h r4) ∧ ((¬ (jai h r4 (ixn x5)) = 0 → r1 ≠ 0 ∧ (cX3_group D d r1 x5 h (pV D h (fun h_6 => r0 ≠ 0 ∧ (cX40_worked D d r0 r1 h_6 (pV D h_6 (fun h_10 => W_X40_groups_251 D d Q K223 r0 r1 x3 r4 x5 h_10) (jth Q)))) (jth Q)))) ∧ ((jai h r4 (ixn x5)) = 0 → W_X40_groups_251 D d Q K223 r0 r1 x3 r4 x5 h)))
theorem w_X40_groups_223 {D : JD} {d : Nat} {Q : JO → JH → Prop} {K223 : Nat → Nat → Int32 → Nat → Int32 → JH → Prop} {r0 : Nat} {r1 : Nat} {x3 : Int32} {r4 : Nat} {x5 : Int32} {h : JH} (hK223 : ∀ (r0 : Nat) (r1 : Nat) (x3 : Int32) (r4 : Nat) (x5 : Int32) (h : JH), K223 r0 r1 x3 r4 x5 h → JW D (d + 1) mX40_groups 223 [some (vR 33 r0), some (vR 3 r1), none, some (vI x3), some (vR 71 r4), some (vI x5), none] [] h Q) (w : W_X40_groups_223 D d Q K223 r0 r1 x3 r4 x5 h) : JW D (d + 1) mX40_groups 223 [some (vR 33 r0), some (vR 3 r1), none, some (vI x3), some (vR 71 r4), some (vI x5), none] [] h Q := by
  unfold W_X40_groups_223 at w
  refine jw_iload (pc' := 225) rfl rfl ?_
  refine jw_iload_n (pc' := 226) rfl rfl ?_
  refine jw_icmp_ge (tgt := 257) (pc' := 229) rfl rfl (fun c_1 => ?_) (fun c_1 => ?_)
  · replace w := w.1 c_1
    exact jw_return rfl rfl w
  · replace w := w.2 c_1
    refine jw_aload (pc' := 231) rfl rfl ?_
    refine jw_iload (pc' := 233) rfl rfl ?_
    obtain ⟨g_2, w⟩ := w
    obtain ⟨g_3, w⟩ := w
    refine jw_zald (pc' := 234) rfl rfl rfl rfl g_2 g_3.ix g_3.2 ?_
    refine jw_if_ne (tgt := 240) (pc' := 237) rfl rfl (fun c_4 => ?_) (fun c_4 => ?_)
    · replace w := w.1 c_4
      refine jw_aload_n (pc' := 241) rfl rfl ?_
      refine jw_iload (pc' := 243) rfl rfl ?_
      obtain ⟨g_5, w⟩ := w
      refine jw_cV (st := []) (sa := [vR 3 r1, vI x5]) okX3_group rfl rfl rfl rfl rfl rfl (jstp_virtual (sa := [vI x5]) (st := []) (k := 0) rfl rfl sX3_group okX3_group g_5 (one3.k g_5) rfl rfl) w (fun h_6 _ _ w => ?_)
      refine jw_aload_n (pc' := 247) rfl rfl ?_
      refine jw_aload_n (pc' := 248) rfl rfl ?_
      obtain ⟨g_9, w⟩ := w
      refine jw_cV (st := []) (sa := [vR 33 r0, vR 3 r1]) okX40_worked rfl rfl rfl rfl rfl rfl (jstp_virtual (sa := [vR 3 r1]) (st := []) (k := 0) rfl rfl sX40_worked okX40_worked g_9 (one33.k g_9) rfl rfl) w (fun h_10 _ _ w => ?_)
      exact w_X40_groups_251 hK223 w
    · replace w := w.2 c_4
      refine jw_goto (pc' := 251) rfl rfl ?_
      exact w_X40_groups_251 hK223 w
def L_X40_groups_223 (D : JD) (d : Nat) (Q : JO → JH → Prop) : Nat → Nat → Nat → Int32 → Nat → Int32 → JH → Prop
  | 0 => fun _ _ _ _ _ _ => False
  | n + 1 => fun r0 r1 x3 r4 x5 h => W_X40_groups_223 D d Q (L_X40_groups_223 D d Q n) r0 r1 x3 r4 x5 h
theorem l_X40_groups_223 {D : JD} {d : Nat} {Q : JO → JH → Prop} : ∀ (n : Nat) (r0 : Nat) (r1 : Nat) (x3 : Int32) (r4 : Nat) (x5 : Int32) (h : JH), L_X40_groups_223 D d Q n r0 r1 x3 r4 x5 h → JW D (d + 1) mX40_groups 223 [some (vR 33 r0), some (vR 3 r1), none, some (vI x3), some (vR 71 r4), some (vI x5), none] [] h Q := by
  intro n
  induction n with
  | zero => intro _ _ _ _ _ _ w; exact w.elim
  | succ n ih => intro _ _ _ _ _ h w; exact w_X40_groups_223 ih w
def W_X40_groups_213 (D : JD) (d : Nat) (Q : JO → JH → Prop) (K171 : Nat → Nat → Nat → Int32 → Nat → Int32 → JH → Prop) (r0 : Nat) (r1 : Nat) (r2 : Nat) (x3 : Int32) (r4 : Nat) (x5 : Int32) (q0 : Nat) (s1 : Int32) (s2 : Int32) (h : JH) : Prop :=
  q0 ≠ 0 ∧ jin s1 (jln h q0) ∧ jbo s2 ∧ ∀ h_4 : JH, h_4 = wai h q0 (ixn s1) s2 → (K171 r0 r1 r2 x3 r4 (x5 + (1 : Int32)) h_4)
theorem w_X40_groups_213 {D : JD} {d : Nat} {Q : JO → JH → Prop} {K171 : Nat → Nat → Nat → Int32 → Nat → Int32 → JH → Prop} {r0 : Nat} {r1 : Nat} {r2 : Nat} {x3 : Int32} {r4 : Nat} {x5 : Int32} {q0 : Nat} {s1 : Int32} {s2 : Int32} {h : JH} (hK171 : ∀ (r0 : Nat) (r1 : Nat) (r2 : Nat) (x3 : Int32) (r4 : Nat) (x5 : Int32) (h : JH), K171 r0 r1 r2 x3 r4 x5 h → JW D (d + 1) mX40_groups 171 [some (vR 33 r0), some (vR 3 r1), some (vR 6 r2), some (vI x3), some (vR 71 r4), some (vI x5), none] [] h Q) (w : W_X40_groups_213 D d Q K171 r0 r1 r2 x3 r4 x5 q0 s1 s2 h) : JW D (d + 1) mX40_groups 213 [some (vR 33 r0), some (vR 3 r1), some (vR 6 r2), some (vI x3), some (vR 71 r4), some (vI x5), none] [vI s2, vI s1, vR 71 q0] h Q := by
  unfold W_X40_groups_213 at w
  obtain ⟨g_1, w⟩ := w
  obtain ⟨g_2, w⟩ := w
  obtain ⟨g_3, w⟩ := w
  refine jw_zast' (pc' := 214) rfl rfl rfl rfl rfl (g_3.nr) g_1 g_2 (fun h_4 e_5 => ?_)
  replace w := w h_4 e_5
  refine jw_iinc (pc' := 217) (y := x5 + (1 : Int32)) (ls' := [some (vR 33 r0), some (vR 3 r1), some (vR 6 r2), some (vI x3), some (vR 71 r4), some (vI (x5 + (1 : Int32))), none]) rfl (by decide) rfl rfl rfl ?_
  refine jw_goto (pc' := 171) rfl rfl ?_
  exact hK171 _ _ _ _ _ _ _ w
def W_X40_groups_208 (D : JD) (d : Nat) (Q : JO → JH → Prop) (K171 : Nat → Nat → Nat → Int32 → Nat → Int32 → JH → Prop) (r0 : Nat) (r1 : Nat) (r2 : Nat) (x3 : Int32) (r4 : Nat) (x5 : Int32) (q0 : Nat) (s1 : Int32) (h : JH) : Prop :=
  W_X40_groups_213 D d Q K171 r0 r1 r2 x3 r4 x5 q0 s1 (1 : Int32) h
theorem w_X40_groups_208 {D : JD} {d : Nat} {Q : JO → JH → Prop} {K171 : Nat → Nat → Nat → Int32 → Nat → Int32 → JH → Prop} {r0 : Nat} {r1 : Nat} {r2 : Nat} {x3 : Int32} {r4 : Nat} {x5 : Int32} {q0 : Nat} {s1 : Int32} {h : JH} (hK171 : ∀ (r0 : Nat) (r1 : Nat) (r2 : Nat) (x3 : Int32) (r4 : Nat) (x5 : Int32) (h : JH), K171 r0 r1 r2 x3 r4 x5 h → JW D (d + 1) mX40_groups 171 [some (vR 33 r0), some (vR 3 r1), some (vR 6 r2), some (vI x3), some (vR 71 r4), some (vI x5), none] [] h Q) (w : W_X40_groups_208 D d Q K171 r0 r1 r2 x3 r4 x5 q0 s1 h) : JW D (d + 1) mX40_groups 208 [some (vR 33 r0), some (vR 3 r1), some (vR 6 r2), some (vI x3), some (vR 71 r4), some (vI x5), none] [vI s1, vR 71 q0] h Q := by
  unfold W_X40_groups_208 at w
  refine jw_iconst (pc' := 209) (x := (1 : Int32)) rfl rfl ?_
  refine jw_goto (pc' := 213) rfl rfl ?_
  exact w_X40_groups_213 hK171 w
def W_X40_groups_202 (D : JD) (d : Nat) (Q : JO → JH → Prop) (K171 : Nat → Nat → Nat → Int32 → Nat → Int32 → JH → Prop) (r0 : Nat) (r1 : Nat) (r2 : Nat) (x3 : Int32) (r4 : Nat) (x5 : Int32) (q0 : Nat) (s1 : Int32) (q2 : Nat) (h : JH) : Prop :=
  q2 ≠ 0 ∧ (cX14_isTrue D d q2 h (pI D h (fun v_4 h_2 => (v_4 = 0 → W_X40_groups_213 D d Q K171 r0 r1 r2 x3 r4 x5 q0 s1 (0 : Int32) h_2) ∧ (¬ v_4 = 0 → W_X40_groups_208 D d Q K171 r0 r1 r2 x3 r4 x5 q0 s1 h_2)) (jth Q)))
theorem w_X40_groups_202 {D : JD} {d : Nat} {Q : JO → JH → Prop} {K171 : Nat → Nat → Nat → Int32 → Nat → Int32 → JH → Prop} {r0 : Nat} {r1 : Nat} {r2 : Nat} {x3 : Int32} {r4 : Nat} {x5 : Int32} {q0 : Nat} {s1 : Int32} {q2 : Nat} {h : JH} (hK171 : ∀ (r0 : Nat) (r1 : Nat) (r2 : Nat) (x3 : Int32) (r4 : Nat) (x5 : Int32) (h : JH), K171 r0 r1 r2 x3 r4 x5 h → JW D (d + 1) mX40_groups 171 [some (vR 33 r0), some (vR 3 r1), some (vR 6 r2), some (vI x3), some (vR 71 r4), some (vI x5), none] [] h Q) (w : W_X40_groups_202 D d Q K171 r0 r1 r2 x3 r4 x5 q0 s1 q2 h) : JW D (d + 1) mX40_groups 202 [some (vR 33 r0), some (vR 3 r1), some (vR 6 r2), some (vI x3), some (vR 71 r4), some (vI x5), none] [vR 8 q2, vI s1, vR 71 q0] h Q := by
  unfold W_X40_groups_202 at w
  obtain ⟨g_1, w⟩ := w
  refine jw_cI (st := [vI s1, vR 71 q0]) (sa := [vR 8 q2]) okX14_isTrue rfl rfl rfl rfl rfl rfl (jstp_virtual (sa := []) (st := [vI s1, vR 71 q0]) (k := 0) rfl rfl sX14_isTrue okX14_isTrue g_1 (one8.k g_1) rfl rfl) w (fun v_4 h_2 _ _ w => ?_)
  refine jw_if_eq (tgt := 212) (pc' := 208) rfl rfl (fun c_5 => ?_) (fun c_5 => ?_)
  · replace w := w.1 c_5
    refine jw_iconst (pc' := 213) (x := (0 : Int32)) rfl rfl ?_
    exact w_X40_groups_213 hK171 w
  · replace w := w.2 c_5
    exact w_X40_groups_208 hK171 w
def W_X40_groups_171 (D : JD) (d : Nat) (Q : JO → JH → Prop) (K171 : Nat → Nat → Nat → Int32 → Nat → Int32 → JH → Prop) (r0 : Nat) (r1 : Nat) (r2 : Nat) (x3 : Int32) (r4 : Nat) (x5 : Int32) (h : JH) : Prop :=
  (x3 ≤ x5 → ∃ n, L_X40_groups_223 D d Q n r0 r1 x3 r4 (0 : Int32) h) ∧ (¬ x3 ≤ x5 → r1 ≠ 0 ∧ (cX3_group D d r1 x5 h (pV D h (fun h_3 => r0 ≠ 0 ∧ (((jfr h_3 149 r0) = 0 → W_X40_groups_208 D d Q K171 r0 r1 r2 x3 r4 x5 r4 x5 h_3) ∧ ((jfr h_3 149 r0) ≠ 0 → v55_at D d (jfr h_3 149 r0) r2 h_3 (pR D h_3 8 (fun v_10 h_8 => W_X40_groups_202 D d Q K171 r0 r1 r2 x3 r4 x5 r4 x5 v_10 h_8) (jth Q))))) (jth Q))))
theorem w_X40_groups_171 {D : JD} {d : Nat} {Q : JO → JH → Prop} {K171 : Nat → Nat → Nat → Int32 → Nat → Int32 → JH → Prop} {r0 : Nat} {r1 : Nat} {r2 : Nat} {x3 : Int32} {r4 : Nat} {x5 : Int32} {h : JH} (hK171 : ∀ (r0 : Nat) (r1 : Nat) (r2 : Nat) (x3 : Int32) (r4 : Nat) (x5 : Int32) (h : JH), K171 r0 r1 r2 x3 r4 x5 h → JW D (d + 1) mX40_groups 171 [some (vR 33 r0), some (vR 3 r1), some (vR 6 r2), some (vI x3), some (vR 71 r4), some (vI x5), none] [] h Q) (w : W_X40_groups_171 D d Q K171 r0 r1 r2 x3 r4 x5 h) : JW D (d + 1) mX40_groups 171 [some (vR 33 r0), some (vR 3 r1), some (vR 6 r2), some (vI x3), some (vR 71 r4), some (vI x5), none] [] h Q := by
  unfold W_X40_groups_171 at w
  refine jw_iload (pc' := 173) rfl rfl ?_
  refine jw_iload_n (pc' := 174) rfl rfl ?_
  refine jw_icmp_ge (tgt := 220) (pc' := 177) rfl rfl (fun c_1 => ?_) (fun c_1 => ?_)
  · replace w := w.1 c_1
    refine jw_iconst (pc' := 221) (x := (0 : Int32)) rfl rfl ?_
    refine jw_istore (pc' := 223) (ls' := [some (vR 33 r0), some (vR 3 r1), some (vR 6 r2), some (vI x3), some (vR 71 r4), some (vI (0 : Int32)), none]) rfl (by decide) rfl ?_
    refine jw_gen (ls' := [some (vR 33 r0), some (vR 3 r1), none, some (vI x3), some (vR 71 r4), some (vI (0 : Int32)), none]) (st' := []) (And.intro (Or.inl rfl) (And.intro (Or.inl rfl) (And.intro (Or.inl rfl) (And.intro (Or.inl rfl) (And.intro (Or.inl rfl) (trivial)))))) (trivial) ?_
    obtain ⟨n, w⟩ := w
    exact l_X40_groups_223 n _ _ _ _ _ _ w
  · replace w := w.2 c_1
    refine jw_aload_n (pc' := 178) rfl rfl ?_
    refine jw_iload (pc' := 180) rfl rfl ?_
    obtain ⟨g_2, w⟩ := w
    refine jw_cV (st := []) (sa := [vR 3 r1, vI x5]) okX3_group rfl rfl rfl rfl rfl rfl (jstp_virtual (sa := [vI x5]) (st := []) (k := 0) rfl rfl sX3_group okX3_group g_2 (one3.k g_2) rfl rfl) w (fun h_3 _ _ w => ?_)
    refine jw_aload (pc' := 185) rfl rfl ?_
    refine jw_iload (pc' := 187) rfl rfl ?_
    refine jw_aload_n (pc' := 188) rfl rfl ?_
    obtain ⟨g_6, w⟩ := w
    refine jw_getR (pc' := 191) (F := 149) (t' := 55) rfl rfl rfl rfl rfl g_6 ?_
    refine jw_ifnull (tgt := 208) (pc' := 194) rfl rfl (fun c_7 => ?_) (fun c_7 => ?_)
    · replace w := w.1 c_7
      exact w_X40_groups_208 hK171 w
    · replace w := w.2 c_7
      refine jw_aload_n (pc' := 195) rfl rfl ?_
      refine jw_getR (pc' := 198) (F := 149) (t' := 55) rfl rfl rfl rfl rfl g_6 ?_
      refine jw_aload_n (pc' := 199) rfl rfl ?_
      refine JW.inv (fun hI => JW.oks (fun ho => ?_))
      have hkd := und55.k hI (ho (vR 55 (jfr h_3 149 r0)) (by simp)) c_7
      simp only [List.mem_cons, List.not_mem_nil, or_false] at hkd
      clear ho hI
      rcases hkd with e_11 | e_11 | e_11 | e_11 | e_11 | e_11 | e_11 | e_11 | e_11 | e_11
      · refine jw_gen (ls' := _) (st' := [vR 6 r2, vR 20 (jfr h_3 149 r0), vI x5, vR 71 r4]) (jgl_rf _ _) (And.intro (Or.inl rfl) (And.intro (Or.inr ⟨_, _, _, rfl, rfl, Or.inr (Or.inr (by rw [e_11]; rfl))⟩) (jgs_rf _ _))) ?_
        refine jw_cR (st := [vI x5, vR 71 r4]) (sa := [vR 20 (jfr h_3 149 r0), vR 6 r2]) okX25_at rfl rfl rfl rfl rfl rfl (jstp_up (sa := [vR 6 r2]) (st := [vI x5, vR 71 r4]) rfl (lw_g (jtb_mem (c := 12) (i := 233) rfl) rfl) um28 okX25_at c_7 (fun _ _ => by rw [e_11]; exact ⟨rfl, rfl⟩) rfl rfl) (w.1 e_11) (fun v_10 h_8 _ _ _ w => ?_)
        exact w_X40_groups_202 hK171 w
      · refine jw_gen (ls' := _) (st' := [vR 6 r2, vR 21 (jfr h_3 149 r0), vI x5, vR 71 r4]) (jgl_rf _ _) (And.intro (Or.inl rfl) (And.intro (Or.inr ⟨_, _, _, rfl, rfl, Or.inr (Or.inr (by rw [e_11]; rfl))⟩) (jgs_rf _ _))) ?_
        refine jw_cR (st := [vI x5, vR 71 r4]) (sa := [vR 21 (jfr h_3 149 r0), vR 6 r2]) okX27_at rfl rfl rfl rfl rfl rfl (jstp_up (sa := [vR 6 r2]) (st := [vI x5, vR 71 r4]) rfl (lw_g (jtb_mem (c := 12) (i := 233) rfl) rfl) um29 okX27_at c_7 (fun _ _ => by rw [e_11]; exact ⟨rfl, rfl⟩) rfl rfl) (w.2.1 e_11) (fun v_10 h_8 _ _ _ w => ?_)
        exact w_X40_groups_202 hK171 w
      · refine jw_gen (ls' := _) (st' := [vR 6 r2, vR 22 (jfr h_3 149 r0), vI x5, vR 71 r4]) (jgl_rf _ _) (And.intro (Or.inl rfl) (And.intro (Or.inr ⟨_, _, _, rfl, rfl, Or.inr (Or.inr (by rw [e_11]; rfl))⟩) (jgs_rf _ _))) ?_
        refine jw_cR (st := [vI x5, vR 71 r4]) (sa := [vR 22 (jfr h_3 149 r0), vR 6 r2]) okX28_at rfl rfl rfl rfl rfl rfl (jstp_up (sa := [vR 6 r2]) (st := [vI x5, vR 71 r4]) rfl (lw_g (jtb_mem (c := 12) (i := 233) rfl) rfl) um30 okX28_at c_7 (fun _ _ => by rw [e_11]; exact ⟨rfl, rfl⟩) rfl rfl) (w.2.2.1 e_11) (fun v_10 h_8 _ _ _ w => ?_)
        exact w_X40_groups_202 hK171 w
      · refine jw_gen (ls' := _) (st' := [vR 6 r2, vR 23 (jfr h_3 149 r0), vI x5, vR 71 r4]) (jgl_rf _ _) (And.intro (Or.inl rfl) (And.intro (Or.inr ⟨_, _, _, rfl, rfl, Or.inr (Or.inr (by rw [e_11]; rfl))⟩) (jgs_rf _ _))) ?_
        refine jw_cR (st := [vI x5, vR 71 r4]) (sa := [vR 23 (jfr h_3 149 r0), vR 6 r2]) okX29_at rfl rfl rfl rfl rfl rfl (jstp_up (sa := [vR 6 r2]) (st := [vI x5, vR 71 r4]) rfl (lw_g (jtb_mem (c := 12) (i := 233) rfl) rfl) um31 okX29_at c_7 (fun _ _ => by rw [e_11]; exact ⟨rfl, rfl⟩) rfl rfl) (w.2.2.2.1 e_11) (fun v_10 h_8 _ _ _ w => ?_)
        exact w_X40_groups_202 hK171 w
      · refine jw_gen (ls' := _) (st' := [vR 6 r2, vR 24 (jfr h_3 149 r0), vI x5, vR 71 r4]) (jgl_rf _ _) (And.intro (Or.inl rfl) (And.intro (Or.inr ⟨_, _, _, rfl, rfl, Or.inr (Or.inr (by rw [e_11]; rfl))⟩) (jgs_rf _ _))) ?_
        refine jw_cR (st := [vI x5, vR 71 r4]) (sa := [vR 24 (jfr h_3 149 r0), vR 6 r2]) okX30_at rfl rfl rfl rfl rfl rfl (jstp_up (sa := [vR 6 r2]) (st := [vI x5, vR 71 r4]) rfl (lw_g (jtb_mem (c := 12) (i := 233) rfl) rfl) um32 okX30_at c_7 (fun _ _ => by rw [e_11]; exact ⟨rfl, rfl⟩) rfl rfl) (w.2.2.2.2.1 e_11) (fun v_10 h_8 _ _ _ w => ?_)
        exact w_X40_groups_202 hK171 w
      · refine jw_gen (ls' := _) (st' := [vR 6 r2, vR 25 (jfr h_3 149 r0), vI x5, vR 71 r4]) (jgl_rf _ _) (And.intro (Or.inl rfl) (And.intro (Or.inr ⟨_, _, _, rfl, rfl, Or.inr (Or.inr (by rw [e_11]; rfl))⟩) (jgs_rf _ _))) ?_
        refine jw_cR (st := [vI x5, vR 71 r4]) (sa := [vR 25 (jfr h_3 149 r0), vR 6 r2]) okX31_at rfl rfl rfl rfl rfl rfl (jstp_up (sa := [vR 6 r2]) (st := [vI x5, vR 71 r4]) rfl (lw_g (jtb_mem (c := 12) (i := 233) rfl) rfl) um33 okX31_at c_7 (fun _ _ => by rw [e_11]; exact ⟨rfl, rfl⟩) rfl rfl) (w.2.2.2.2.2.1 e_11) (fun v_10 h_8 _ _ _ w => ?_)
        exact w_X40_groups_202 hK171 w
      · refine jw_gen (ls' := _) (st' := [vR 6 r2, vR 26 (jfr h_3 149 r0), vI x5, vR 71 r4]) (jgl_rf _ _) (And.intro (Or.inl rfl) (And.intro (Or.inr ⟨_, _, _, rfl, rfl, Or.inr (Or.inr (by rw [e_11]; rfl))⟩) (jgs_rf _ _))) ?_
        refine jw_cR (st := [vI x5, vR 71 r4]) (sa := [vR 26 (jfr h_3 149 r0), vR 6 r2]) okX32_at rfl rfl rfl rfl rfl rfl (jstp_up (sa := [vR 6 r2]) (st := [vI x5, vR 71 r4]) rfl (lw_g (jtb_mem (c := 12) (i := 233) rfl) rfl) um34 okX32_at c_7 (fun _ _ => by rw [e_11]; exact ⟨rfl, rfl⟩) rfl rfl) (w.2.2.2.2.2.2.1 e_11) (fun v_10 h_8 _ _ _ w => ?_)
        exact w_X40_groups_202 hK171 w
      · refine jw_gen (ls' := _) (st' := [vR 6 r2, vR 27 (jfr h_3 149 r0), vI x5, vR 71 r4]) (jgl_rf _ _) (And.intro (Or.inl rfl) (And.intro (Or.inr ⟨_, _, _, rfl, rfl, Or.inr (Or.inr (by rw [e_11]; rfl))⟩) (jgs_rf _ _))) ?_
        refine jw_cR (st := [vI x5, vR 71 r4]) (sa := [vR 27 (jfr h_3 149 r0), vR 6 r2]) okX33_at rfl rfl rfl rfl rfl rfl (jstp_up (sa := [vR 6 r2]) (st := [vI x5, vR 71 r4]) rfl (lw_g (jtb_mem (c := 12) (i := 233) rfl) rfl) um35 okX33_at c_7 (fun _ _ => by rw [e_11]; exact ⟨rfl, rfl⟩) rfl rfl) (w.2.2.2.2.2.2.2.1 e_11) (fun v_10 h_8 _ _ _ w => ?_)
        exact w_X40_groups_202 hK171 w
      · refine jw_gen (ls' := _) (st' := [vR 6 r2, vR 28 (jfr h_3 149 r0), vI x5, vR 71 r4]) (jgl_rf _ _) (And.intro (Or.inl rfl) (And.intro (Or.inr ⟨_, _, _, rfl, rfl, Or.inr (Or.inr (by rw [e_11]; rfl))⟩) (jgs_rf _ _))) ?_
        refine jw_cR (st := [vI x5, vR 71 r4]) (sa := [vR 28 (jfr h_3 149 r0), vR 6 r2]) okX34_at rfl rfl rfl rfl rfl rfl (jstp_up (sa := [vR 6 r2]) (st := [vI x5, vR 71 r4]) rfl (lw_g (jtb_mem (c := 12) (i := 233) rfl) rfl) um36 okX34_at c_7 (fun _ _ => by rw [e_11]; exact ⟨rfl, rfl⟩) rfl rfl) (w.2.2.2.2.2.2.2.2.1 e_11) (fun v_10 h_8 _ _ _ w => ?_)
        exact w_X40_groups_202 hK171 w
      · refine jw_gen (ls' := _) (st' := [vR 6 r2, vR 29 (jfr h_3 149 r0), vI x5, vR 71 r4]) (jgl_rf _ _) (And.intro (Or.inl rfl) (And.intro (Or.inr ⟨_, _, _, rfl, rfl, Or.inr (Or.inr (by rw [e_11]; rfl))⟩) (jgs_rf _ _))) ?_
        refine jw_cR (st := [vI x5, vR 71 r4]) (sa := [vR 29 (jfr h_3 149 r0), vR 6 r2]) okX35_at rfl rfl rfl rfl rfl rfl (jstp_up (sa := [vR 6 r2]) (st := [vI x5, vR 71 r4]) rfl (lw_g (jtb_mem (c := 12) (i := 233) rfl) rfl) um37 okX35_at c_7 (fun _ _ => by rw [e_11]; exact ⟨rfl, rfl⟩) rfl rfl) (w.2.2.2.2.2.2.2.2.2 e_11) (fun v_10 h_8 _ _ _ w => ?_)
        exact w_X40_groups_202 hK171 w
def L_X40_groups_171 (D : JD) (d : Nat) (Q : JO → JH → Prop) : Nat → Nat → Nat → Nat → Int32 → Nat → Int32 → JH → Prop
  | 0 => fun _ _ _ _ _ _ _ => False
  | n + 1 => fun r0 r1 r2 x3 r4 x5 h => W_X40_groups_171 D d Q (L_X40_groups_171 D d Q n) r0 r1 r2 x3 r4 x5 h
theorem l_X40_groups_171 {D : JD} {d : Nat} {Q : JO → JH → Prop} : ∀ (n : Nat) (r0 : Nat) (r1 : Nat) (r2 : Nat) (x3 : Int32) (r4 : Nat) (x5 : Int32) (h : JH), L_X40_groups_171 D d Q n r0 r1 r2 x3 r4 x5 h → JW D (d + 1) mX40_groups 171 [some (vR 33 r0), some (vR 3 r1), some (vR 6 r2), some (vI x3), some (vR 71 r4), some (vI x5), none] [] h Q := by
  intro n
  induction n with
  | zero => intro _ _ _ _ _ _ _ w; exact w.elim
  | succ n ih => intro _ _ _ _ _ _ h w; exact w_X40_groups_171 ih w
def W_X40_groups_143 (D : JD) (d : Nat) (Q : JO → JH → Prop) (K21 : Nat → Nat → Nat → Int32 → Int32 → JH → Prop) (r0 : Nat) (r1 : Nat) (r2 : Nat) (x3 : Int32) (x4 : Int32) (x6 : Int32) (h : JH) : Prop :=
  r1 ≠ 0 ∧ ((jfr h 26 r1) ≠ 0 ∧ jin x4 (jln h (jfr h 26 r1)) ∧ ∀ h_4 : JH, h_4 = wai h (jfr h 26 r1) (ixn x4) x6 → (K21 r0 r1 r2 x3 (x4 + (1 : Int32)) h_4))
theorem w_X40_groups_143 {D : JD} {d : Nat} {Q : JO → JH → Prop} {K21 : Nat → Nat → Nat → Int32 → Int32 → JH → Prop} {r0 : Nat} {r1 : Nat} {r2 : Nat} {x3 : Int32} {x4 : Int32} {x6 : Int32} {h : JH} (hK21 : ∀ (r0 : Nat) (r1 : Nat) (r2 : Nat) (x3 : Int32) (x4 : Int32) (h : JH), K21 r0 r1 r2 x3 x4 h → JW D (d + 1) mX40_groups 21 [some (vR 33 r0), some (vR 3 r1), some (vR 6 r2), some (vI x3), some (vI x4), none, none] [] h Q) (w : W_X40_groups_143 D d Q K21 r0 r1 r2 x3 x4 x6 h) : JW D (d + 1) mX40_groups 143 [some (vR 33 r0), some (vR 3 r1), some (vR 6 r2), some (vI x3), some (vI x4), none, some (vI x6)] [] h Q := by
  unfold W_X40_groups_143 at w
  refine jw_aload_n (pc' := 144) rfl rfl ?_
  obtain ⟨g_1, w⟩ := w
  refine jw_getR (pc' := 147) (F := 26) (t' := 130) rfl rfl rfl rfl rfl g_1 ?_
  refine jw_iload (pc' := 149) rfl rfl ?_
  refine jw_iload (pc' := 151) rfl rfl ?_
  obtain ⟨g_2, w⟩ := w
  obtain ⟨g_3, w⟩ := w
  refine jw_iast' (pc' := 152) rfl rfl rfl rfl rfl g_2 g_3 (fun h_4 e_5 => ?_)
  replace w := w h_4 e_5
  refine jw_iinc (pc' := 155) (y := x4 + (1 : Int32)) (ls' := [some (vR 33 r0), some (vR 3 r1), some (vR 6 r2), some (vI x3), some (vI (x4 + (1 : Int32))), none, some (vI x6)]) rfl (by decide) rfl rfl rfl ?_
  refine jw_goto (pc' := 21) rfl rfl ?_
  refine jw_gen (ls' := [some (vR 33 r0), some (vR 3 r1), some (vR 6 r2), some (vI x3), some (vI (x4 + (1 : Int32))), none, none]) (st' := []) (And.intro (Or.inl rfl) (And.intro (Or.inl rfl) (And.intro (Or.inl rfl) (And.intro (Or.inl rfl) (And.intro (Or.inl rfl) (trivial)))))) (trivial) ?_
  exact hK21 _ _ _ _ _ _ w
def W_X40_groups_121 (D : JD) (d : Nat) (Q : JO → JH → Prop) (K21 : Nat → Nat → Nat → Int32 → Int32 → JH → Prop) (r0 : Nat) (r1 : Nat) (r2 : Nat) (x3 : Int32) (x4 : Int32) (x6 : Int32) (h : JH) : Prop :=
  (¬ x6 = x3 → W_X40_groups_143 D d Q K21 r0 r1 r2 x3 x4 x6 h) ∧ (x6 = x3 → (¬ x3 = (300 : Int32) → W_X40_groups_143 D d Q K21 r0 r1 r2 (x3 + (1 : Int32)) x4 x6 h) ∧ (x3 = (300 : Int32) → cX1_fault D d (jcs D 179) h (pR D h 9 (fun v_5 h_3 => v_5 ≠ 0 ∧ (Q (.inr v_5) h_3)) (jth Q))))
theorem w_X40_groups_121 {D : JD} {d : Nat} {Q : JO → JH → Prop} {K21 : Nat → Nat → Nat → Int32 → Int32 → JH → Prop} {r0 : Nat} {r1 : Nat} {r2 : Nat} {x3 : Int32} {x4 : Int32} {x6 : Int32} {h : JH} (hK21 : ∀ (r0 : Nat) (r1 : Nat) (r2 : Nat) (x3 : Int32) (x4 : Int32) (h : JH), K21 r0 r1 r2 x3 x4 h → JW D (d + 1) mX40_groups 21 [some (vR 33 r0), some (vR 3 r1), some (vR 6 r2), some (vI x3), some (vI x4), none, none] [] h Q) (w : W_X40_groups_121 D d Q K21 r0 r1 r2 x3 x4 x6 h) : JW D (d + 1) mX40_groups 121 [some (vR 33 r0), some (vR 3 r1), some (vR 6 r2), some (vI x3), some (vI x4), none, some (vI x6)] [] h Q := by
  unfold W_X40_groups_121 at w
  refine jw_iload (pc' := 123) rfl rfl ?_
  refine jw_iload_n (pc' := 124) rfl rfl ?_
  refine jw_icmp_ne (tgt := 143) (pc' := 127) rfl rfl (fun c_1 => ?_) (fun c_1 => ?_)
  · replace w := w.1 c_1
    exact w_X40_groups_143 hK21 w
  · replace w := w.2 c_1
    refine jw_iload_n (pc' := 128) rfl rfl ?_
    refine jw_sipush (pc' := 131) (x := (300 : Int32)) rfl rfl ?_
    refine jw_icmp_ne (tgt := 140) (pc' := 134) rfl rfl (fun c_2 => ?_) (fun c_2 => ?_)
    · replace w := w.1 c_2
      refine jw_iinc (pc' := 143) (y := x3 + (1 : Int32)) (ls' := [some (vR 33 r0), some (vR 3 r1), some (vR 6 r2), some (vI (x3 + (1 : Int32))), some (vI x4), none, some (vI x6)]) rfl (by decide) rfl rfl rfl ?_
      exact w_X40_groups_143 hK21 w
    · replace w := w.2 c_2
      refine jw_ldcS (pc' := 136) rfl rfl rfl rfl ?_
      refine jw_cR (st := []) (sa := [vR 51 (jcs D 179)]) okX1_fault rfl rfl rfl rfl rfl rfl (jstp_static (sa := [vR 51 (jcs D 179)]) (st := []) rfl rfl sX1_fault okX1_fault rfl rfl) w (fun v_5 h_3 _ _ _ w => ?_)
      obtain ⟨g_6, w⟩ := w
      exact jw_athrow rfl rfl g_6 w
def W_X40_groups_84 (D : JD) (d : Nat) (Q : JO → JH → Prop) (K21 : Nat → Nat → Nat → Int32 → Int32 → JH → Prop) (K84 : Nat → Nat → Nat → Int32 → Int32 → Nat → Int32 → JH → Prop) (r0 : Nat) (r1 : Nat) (r2 : Nat) (x3 : Int32) (x4 : Int32) (r5 : Nat) (x6 : Int32) (h : JH) : Prop :=
  r0 ≠ 0 ∧ (((jfi h 148 r0) ≤ 0 → W_X40_groups_121 D d Q K21 r0 r1 r2 x3 x4 x6 h) ∧ (¬ (jfi h 148 r0) ≤ 0 → (x3 ≤ x6 → W_X40_groups_121 D d Q K21 r0 r1 r2 x3 x4 x6 h) ∧ (¬ x3 ≤ x6 → r1 ≠ 0 ∧ (cX3_key D d r1 x6 h (pR D h 76 (fun v_7 h_5 => cX40_alike D d v_7 r5 (jfi h_5 148 r0) h_5 (pI D h_5 (fun v_10 h_8 => (¬ v_10 = 0 → W_X40_groups_121 D d Q K21 r0 r1 r2 x3 x4 x6 h_8) ∧ (v_10 = 0 → K84 r0 r1 r2 x3 x4 r5 (x6 + (1 : Int32)) h_8)) (jth Q))) (jth Q))))))
theorem w_X40_groups_84 {D : JD} {d : Nat} {Q : JO → JH → Prop} {K21 : Nat → Nat → Nat → Int32 → Int32 → JH → Prop} {K84 : Nat → Nat → Nat → Int32 → Int32 → Nat → Int32 → JH → Prop} {r0 : Nat} {r1 : Nat} {r2 : Nat} {x3 : Int32} {x4 : Int32} {r5 : Nat} {x6 : Int32} {h : JH} (hK21 : ∀ (r0 : Nat) (r1 : Nat) (r2 : Nat) (x3 : Int32) (x4 : Int32) (h : JH), K21 r0 r1 r2 x3 x4 h → JW D (d + 1) mX40_groups 21 [some (vR 33 r0), some (vR 3 r1), some (vR 6 r2), some (vI x3), some (vI x4), none, none] [] h Q) (hK84 : ∀ (r0 : Nat) (r1 : Nat) (r2 : Nat) (x3 : Int32) (x4 : Int32) (r5 : Nat) (x6 : Int32) (h : JH), K84 r0 r1 r2 x3 x4 r5 x6 h → JW D (d + 1) mX40_groups 84 [some (vR 33 r0), some (vR 3 r1), some (vR 6 r2), some (vI x3), some (vI x4), some (vR 76 r5), some (vI x6)] [] h Q) (w : W_X40_groups_84 D d Q K21 K84 r0 r1 r2 x3 x4 r5 x6 h) : JW D (d + 1) mX40_groups 84 [some (vR 33 r0), some (vR 3 r1), some (vR 6 r2), some (vI x3), some (vI x4), some (vR 76 r5), some (vI x6)] [] h Q := by
  unfold W_X40_groups_84 at w
  refine jw_aload_n (pc' := 85) rfl rfl ?_
  obtain ⟨g_1, w⟩ := w
  refine jw_getI (pc' := 88) (F := 148) rfl rfl rfl rfl g_1 ?_
  refine jw_if_le (tgt := 121) (pc' := 91) rfl rfl (fun c_2 => ?_) (fun c_2 => ?_)
  · replace w := w.1 c_2
    refine jw_gen (ls' := [some (vR 33 r0), some (vR 3 r1), some (vR 6 r2), some (vI x3), some (vI x4), none, some (vI x6)]) (st' := []) (And.intro (Or.inl rfl) (And.intro (Or.inl rfl) (And.intro (Or.inl rfl) (And.intro (Or.inl rfl) (And.intro (Or.inl rfl) (And.intro (Or.inl rfl) (trivial))))))) (trivial) ?_
    exact w_X40_groups_121 hK21 w
  · replace w := w.2 c_2
    refine jw_iload (pc' := 93) rfl rfl ?_
    refine jw_iload_n (pc' := 94) rfl rfl ?_
    refine jw_icmp_ge (tgt := 121) (pc' := 97) rfl rfl (fun c_3 => ?_) (fun c_3 => ?_)
    · replace w := w.1 c_3
      refine jw_gen (ls' := [some (vR 33 r0), some (vR 3 r1), some (vR 6 r2), some (vI x3), some (vI x4), none, some (vI x6)]) (st' := []) (And.intro (Or.inl rfl) (And.intro (Or.inl rfl) (And.intro (Or.inl rfl) (And.intro (Or.inl rfl) (And.intro (Or.inl rfl) (And.intro (Or.inl rfl) (trivial))))))) (trivial) ?_
      exact w_X40_groups_121 hK21 w
    · replace w := w.2 c_3
      refine jw_aload_n (pc' := 98) rfl rfl ?_
      refine jw_iload (pc' := 100) rfl rfl ?_
      obtain ⟨g_4, w⟩ := w
      refine jw_cR (st := []) (sa := [vR 3 r1, vI x6]) okX3_key rfl rfl rfl rfl rfl rfl (jstp_virtual (sa := [vI x6]) (st := []) (k := 0) rfl rfl sX3_key okX3_key g_4 (one3.k g_4) rfl rfl) w (fun v_7 h_5 _ _ _ w => ?_)
      refine jw_aload (pc' := 105) rfl rfl ?_
      refine jw_aload_n (pc' := 106) rfl rfl ?_
      refine jw_getI (pc' := 109) (F := 148) rfl rfl rfl rfl g_1 ?_
      refine jw_cI (st := []) (sa := [vR 76 v_7, vR 76 r5, vI (jfi h_5 148 r0)]) okX40_alike rfl rfl rfl rfl rfl rfl (jstp_static (sa := [vR 76 v_7, vR 76 r5, vI (jfi h_5 148 r0)]) (st := []) rfl rfl sX40_alike okX40_alike rfl rfl) w (fun v_10 h_8 _ _ w => ?_)
      refine jw_if_ne (tgt := 121) (pc' := 115) rfl rfl (fun c_11 => ?_) (fun c_11 => ?_)
      · replace w := w.1 c_11
        refine jw_gen (ls' := [some (vR 33 r0), some (vR 3 r1), some (vR 6 r2), some (vI x3), some (vI x4), none, some (vI x6)]) (st' := []) (And.intro (Or.inl rfl) (And.intro (Or.inl rfl) (And.intro (Or.inl rfl) (And.intro (Or.inl rfl) (And.intro (Or.inl rfl) (And.intro (Or.inl rfl) (trivial))))))) (trivial) ?_
        exact w_X40_groups_121 hK21 w
      · replace w := w.2 c_11
        refine jw_iinc (pc' := 118) (y := x6 + (1 : Int32)) (ls' := [some (vR 33 r0), some (vR 3 r1), some (vR 6 r2), some (vI x3), some (vI x4), some (vR 76 r5), some (vI (x6 + (1 : Int32)))]) rfl (by decide) rfl rfl rfl ?_
        refine jw_goto (pc' := 84) rfl rfl ?_
        exact hK84 _ _ _ _ _ _ _ _ w
def L_X40_groups_84 (D : JD) (d : Nat) (Q : JO → JH → Prop) (K21 : Nat → Nat → Nat → Int32 → Int32 → JH → Prop) : Nat → Nat → Nat → Nat → Int32 → Int32 → Nat → Int32 → JH → Prop
  | 0 => fun _ _ _ _ _ _ _ _ => False
  | n + 1 => fun r0 r1 r2 x3 x4 r5 x6 h => W_X40_groups_84 D d Q K21 (L_X40_groups_84 D d Q K21 n) r0 r1 r2 x3 x4 r5 x6 h
theorem l_X40_groups_84 {D : JD} {d : Nat} {Q : JO → JH → Prop} {K21 : Nat → Nat → Nat → Int32 → Int32 → JH → Prop} (hK21 : ∀ (r0 : Nat) (r1 : Nat) (r2 : Nat) (x3 : Int32) (x4 : Int32) (h : JH), K21 r0 r1 r2 x3 x4 h → JW D (d + 1) mX40_groups 21 [some (vR 33 r0), some (vR 3 r1), some (vR 6 r2), some (vI x3), some (vI x4), none, none] [] h Q) : ∀ (n : Nat) (r0 : Nat) (r1 : Nat) (r2 : Nat) (x3 : Int32) (x4 : Int32) (r5 : Nat) (x6 : Int32) (h : JH), L_X40_groups_84 D d Q K21 n r0 r1 r2 x3 x4 r5 x6 h → JW D (d + 1) mX40_groups 84 [some (vR 33 r0), some (vR 3 r1), some (vR 6 r2), some (vI x3), some (vI x4), some (vR 76 r5), some (vI x6)] [] h Q := by
  intro n
  induction n with
  | zero => intro _ _ _ _ _ _ _ _ w; exact w.elim
  | succ n ih => intro _ _ _ _ _ _ _ h w; exact w_X40_groups_84 hK21 ih w
def W_X40_groups_71 (D : JD) (d : Nat) (Q : JO → JH → Prop) (K21 : Nat → Nat → Nat → Int32 → Int32 → JH → Prop) (K46 : Nat → Nat → Nat → Int32 → Int32 → Nat → Int32 → JH → Prop) (r0 : Nat) (r1 : Nat) (r2 : Nat) (x3 : Int32) (x4 : Int32) (r5 : Nat) (x6 : Int32) (q0 : Nat) (q1 : Nat) (h : JH) : Prop :=
  q0 ≠ 0 ∧ (cX14_copy D d q0 q1 h (pR D h 8 (fun v_4 h_2 => K46 r0 r1 r2 x3 x4 r5 (x6 + (1 : Int32)) h_2) (jth Q)))
theorem w_X40_groups_71 {D : JD} {d : Nat} {Q : JO → JH → Prop} {K21 : Nat → Nat → Nat → Int32 → Int32 → JH → Prop} {K46 : Nat → Nat → Nat → Int32 → Int32 → Nat → Int32 → JH → Prop} {r0 : Nat} {r1 : Nat} {r2 : Nat} {x3 : Int32} {x4 : Int32} {r5 : Nat} {x6 : Int32} {q0 : Nat} {q1 : Nat} {h : JH} (hK21 : ∀ (r0 : Nat) (r1 : Nat) (r2 : Nat) (x3 : Int32) (x4 : Int32) (h : JH), K21 r0 r1 r2 x3 x4 h → JW D (d + 1) mX40_groups 21 [some (vR 33 r0), some (vR 3 r1), some (vR 6 r2), some (vI x3), some (vI x4), none, none] [] h Q) (hK46 : ∀ (r0 : Nat) (r1 : Nat) (r2 : Nat) (x3 : Int32) (x4 : Int32) (r5 : Nat) (x6 : Int32) (h : JH), K46 r0 r1 r2 x3 x4 r5 x6 h → JW D (d + 1) mX40_groups 46 [some (vR 33 r0), some (vR 3 r1), some (vR 6 r2), some (vI x3), some (vI x4), some (vR 76 r5), some (vI x6)] [] h Q) (w : W_X40_groups_71 D d Q K21 K46 r0 r1 r2 x3 x4 r5 x6 q0 q1 h) : JW D (d + 1) mX40_groups 71 [some (vR 33 r0), some (vR 3 r1), some (vR 6 r2), some (vI x3), some (vI x4), some (vR 76 r5), some (vI x6)] [vR 8 q1, vR 8 q0] h Q := by
  unfold W_X40_groups_71 at w
  obtain ⟨g_1, w⟩ := w
  refine jw_cR (st := []) (sa := [vR 8 q0, vR 8 q1]) okX14_copy rfl rfl rfl rfl rfl rfl (jstp_virtual (sa := [vR 8 q1]) (st := []) (k := 0) rfl rfl sX14_copy okX14_copy g_1 (one8.k g_1) rfl rfl) w (fun v_4 h_2 _ _ _ w => ?_)
  refine jw_pop (pc' := 75) rfl rfl ?_
  refine jw_iinc (pc' := 78) (y := x6 + (1 : Int32)) (ls' := [some (vR 33 r0), some (vR 3 r1), some (vR 6 r2), some (vI x3), some (vI x4), some (vR 76 r5), some (vI (x6 + (1 : Int32)))]) rfl (by decide) rfl rfl rfl ?_
  refine jw_goto (pc' := 46) rfl rfl ?_
  exact hK46 _ _ _ _ _ _ _ _ w
def W_X40_groups_46 (D : JD) (d : Nat) (Q : JO → JH → Prop) (K21 : Nat → Nat → Nat → Int32 → Int32 → JH → Prop) (K46 : Nat → Nat → Nat → Int32 → Int32 → Nat → Int32 → JH → Prop) (r0 : Nat) (r1 : Nat) (r2 : Nat) (x3 : Int32) (x4 : Int32) (r5 : Nat) (x6 : Int32) (h : JH) : Prop :=
  r0 ≠ 0 ∧ (((jfi h 148 r0) ≤ x6 → ∃ n, L_X40_groups_84 D d Q K21 n r0 r1 r2 x3 x4 r5 (0 : Int32) h) ∧ (¬ (jfi h 148 r0) ≤ x6 → r5 ≠ 0 ∧ jin x6 (jln h r5) ∧ ((jfr h 147 r0) ≠ 0 ∧ jin x6 (jln h (jfr h 147 r0)) ∧ ((jar h (jfr h 147 r0) (ixn x6)) ≠ 0 ∧ (v55_at D d (jar h (jfr h 147 r0) (ixn x6)) r2 h (pR D h 8 (fun v_10 h_8 => W_X40_groups_71 D d Q K21 K46 r0 r1 r2 x3 x4 r5 x6 (jar h r5 (ixn x6)) v_10 h_8) (jth Q)))))))
theorem w_X40_groups_46 {D : JD} {d : Nat} {Q : JO → JH → Prop} {K21 : Nat → Nat → Nat → Int32 → Int32 → JH → Prop} {K46 : Nat → Nat → Nat → Int32 → Int32 → Nat → Int32 → JH → Prop} {r0 : Nat} {r1 : Nat} {r2 : Nat} {x3 : Int32} {x4 : Int32} {r5 : Nat} {x6 : Int32} {h : JH} (hK21 : ∀ (r0 : Nat) (r1 : Nat) (r2 : Nat) (x3 : Int32) (x4 : Int32) (h : JH), K21 r0 r1 r2 x3 x4 h → JW D (d + 1) mX40_groups 21 [some (vR 33 r0), some (vR 3 r1), some (vR 6 r2), some (vI x3), some (vI x4), none, none] [] h Q) (hK46 : ∀ (r0 : Nat) (r1 : Nat) (r2 : Nat) (x3 : Int32) (x4 : Int32) (r5 : Nat) (x6 : Int32) (h : JH), K46 r0 r1 r2 x3 x4 r5 x6 h → JW D (d + 1) mX40_groups 46 [some (vR 33 r0), some (vR 3 r1), some (vR 6 r2), some (vI x3), some (vI x4), some (vR 76 r5), some (vI x6)] [] h Q) (w : W_X40_groups_46 D d Q K21 K46 r0 r1 r2 x3 x4 r5 x6 h) : JW D (d + 1) mX40_groups 46 [some (vR 33 r0), some (vR 3 r1), some (vR 6 r2), some (vI x3), some (vI x4), some (vR 76 r5), some (vI x6)] [] h Q := by
  unfold W_X40_groups_46 at w
  refine jw_iload (pc' := 48) rfl rfl ?_
  refine jw_aload_n (pc' := 49) rfl rfl ?_
  obtain ⟨g_1, w⟩ := w
  refine jw_getI (pc' := 52) (F := 148) rfl rfl rfl rfl g_1 ?_
  refine jw_icmp_ge (tgt := 81) (pc' := 55) rfl rfl (fun c_2 => ?_) (fun c_2 => ?_)
  · replace w := w.1 c_2
    refine jw_iconst (pc' := 82) (x := (0 : Int32)) rfl rfl ?_
    refine jw_istore (pc' := 84) (ls' := [some (vR 33 r0), some (vR 3 r1), some (vR 6 r2), some (vI x3), some (vI x4), some (vR 76 r5), some (vI (0 : Int32))]) rfl (by decide) rfl ?_
    obtain ⟨n, w⟩ := w
    exact l_X40_groups_84 hK21 n _ _ _ _ _ _ _ _ w
  · replace w := w.2 c_2
    refine jw_aload (pc' := 57) rfl rfl ?_
    refine jw_iload (pc' := 59) rfl rfl ?_
    obtain ⟨g_3, w⟩ := w
    obtain ⟨g_4, w⟩ := w
    refine jw_aald (pc' := 60) (t' := 8) rfl rfl rfl rfl g_3 g_4.ix g_4.2 ?_
    refine jw_aload_n (pc' := 61) rfl rfl ?_
    refine jw_getR (pc' := 64) (F := 147) (t' := 154) rfl rfl rfl rfl rfl g_1 ?_
    refine jw_iload (pc' := 66) rfl rfl ?_
    obtain ⟨g_5, w⟩ := w
    obtain ⟨g_6, w⟩ := w
    refine jw_aald (pc' := 67) (t' := 55) rfl rfl rfl rfl g_5 g_6.ix g_6.2 ?_
    refine jw_aload_n (pc' := 68) rfl rfl ?_
    obtain ⟨g_7, w⟩ := w
    refine JW.inv (fun hI => JW.oks (fun ho => ?_))
    have hkd := und55.k hI (ho (vR 55 (jar h (jfr h 147 r0) (ixn x6))) (by simp)) g_7
    simp only [List.mem_cons, List.not_mem_nil, or_false] at hkd
    clear ho hI
    rcases hkd with e_11 | e_11 | e_11 | e_11 | e_11 | e_11 | e_11 | e_11 | e_11 | e_11
    · refine jw_gen (ls' := _) (st' := [vR 6 r2, vR 20 (jar h (jfr h 147 r0) (ixn x6)), vR 8 (jar h r5 (ixn x6))]) (jgl_rf _ _) (And.intro (Or.inl rfl) (And.intro (Or.inr ⟨_, _, _, rfl, rfl, Or.inr (Or.inr (by rw [e_11]; rfl))⟩) (jgs_rf _ _))) ?_
      refine jw_cR (st := [vR 8 (jar h r5 (ixn x6))]) (sa := [vR 20 (jar h (jfr h 147 r0) (ixn x6)), vR 6 r2]) okX25_at rfl rfl rfl rfl rfl rfl (jstp_up (sa := [vR 6 r2]) (st := [vR 8 (jar h r5 (ixn x6))]) rfl (lw_g (jtb_mem (c := 12) (i := 233) rfl) rfl) um28 okX25_at g_7 (fun _ _ => by rw [e_11]; exact ⟨rfl, rfl⟩) rfl rfl) (w.1 e_11) (fun v_10 h_8 _ _ _ w => ?_)
      exact w_X40_groups_71 hK21 hK46 w
    · refine jw_gen (ls' := _) (st' := [vR 6 r2, vR 21 (jar h (jfr h 147 r0) (ixn x6)), vR 8 (jar h r5 (ixn x6))]) (jgl_rf _ _) (And.intro (Or.inl rfl) (And.intro (Or.inr ⟨_, _, _, rfl, rfl, Or.inr (Or.inr (by rw [e_11]; rfl))⟩) (jgs_rf _ _))) ?_
      refine jw_cR (st := [vR 8 (jar h r5 (ixn x6))]) (sa := [vR 21 (jar h (jfr h 147 r0) (ixn x6)), vR 6 r2]) okX27_at rfl rfl rfl rfl rfl rfl (jstp_up (sa := [vR 6 r2]) (st := [vR 8 (jar h r5 (ixn x6))]) rfl (lw_g (jtb_mem (c := 12) (i := 233) rfl) rfl) um29 okX27_at g_7 (fun _ _ => by rw [e_11]; exact ⟨rfl, rfl⟩) rfl rfl) (w.2.1 e_11) (fun v_10 h_8 _ _ _ w => ?_)
      exact w_X40_groups_71 hK21 hK46 w
    · refine jw_gen (ls' := _) (st' := [vR 6 r2, vR 22 (jar h (jfr h 147 r0) (ixn x6)), vR 8 (jar h r5 (ixn x6))]) (jgl_rf _ _) (And.intro (Or.inl rfl) (And.intro (Or.inr ⟨_, _, _, rfl, rfl, Or.inr (Or.inr (by rw [e_11]; rfl))⟩) (jgs_rf _ _))) ?_
      refine jw_cR (st := [vR 8 (jar h r5 (ixn x6))]) (sa := [vR 22 (jar h (jfr h 147 r0) (ixn x6)), vR 6 r2]) okX28_at rfl rfl rfl rfl rfl rfl (jstp_up (sa := [vR 6 r2]) (st := [vR 8 (jar h r5 (ixn x6))]) rfl (lw_g (jtb_mem (c := 12) (i := 233) rfl) rfl) um30 okX28_at g_7 (fun _ _ => by rw [e_11]; exact ⟨rfl, rfl⟩) rfl rfl) (w.2.2.1 e_11) (fun v_10 h_8 _ _ _ w => ?_)
      exact w_X40_groups_71 hK21 hK46 w
    · refine jw_gen (ls' := _) (st' := [vR 6 r2, vR 23 (jar h (jfr h 147 r0) (ixn x6)), vR 8 (jar h r5 (ixn x6))]) (jgl_rf _ _) (And.intro (Or.inl rfl) (And.intro (Or.inr ⟨_, _, _, rfl, rfl, Or.inr (Or.inr (by rw [e_11]; rfl))⟩) (jgs_rf _ _))) ?_
      refine jw_cR (st := [vR 8 (jar h r5 (ixn x6))]) (sa := [vR 23 (jar h (jfr h 147 r0) (ixn x6)), vR 6 r2]) okX29_at rfl rfl rfl rfl rfl rfl (jstp_up (sa := [vR 6 r2]) (st := [vR 8 (jar h r5 (ixn x6))]) rfl (lw_g (jtb_mem (c := 12) (i := 233) rfl) rfl) um31 okX29_at g_7 (fun _ _ => by rw [e_11]; exact ⟨rfl, rfl⟩) rfl rfl) (w.2.2.2.1 e_11) (fun v_10 h_8 _ _ _ w => ?_)
      exact w_X40_groups_71 hK21 hK46 w
    · refine jw_gen (ls' := _) (st' := [vR 6 r2, vR 24 (jar h (jfr h 147 r0) (ixn x6)), vR 8 (jar h r5 (ixn x6))]) (jgl_rf _ _) (And.intro (Or.inl rfl) (And.intro (Or.inr ⟨_, _, _, rfl, rfl, Or.inr (Or.inr (by rw [e_11]; rfl))⟩) (jgs_rf _ _))) ?_
      refine jw_cR (st := [vR 8 (jar h r5 (ixn x6))]) (sa := [vR 24 (jar h (jfr h 147 r0) (ixn x6)), vR 6 r2]) okX30_at rfl rfl rfl rfl rfl rfl (jstp_up (sa := [vR 6 r2]) (st := [vR 8 (jar h r5 (ixn x6))]) rfl (lw_g (jtb_mem (c := 12) (i := 233) rfl) rfl) um32 okX30_at g_7 (fun _ _ => by rw [e_11]; exact ⟨rfl, rfl⟩) rfl rfl) (w.2.2.2.2.1 e_11) (fun v_10 h_8 _ _ _ w => ?_)
      exact w_X40_groups_71 hK21 hK46 w
    · refine jw_gen (ls' := _) (st' := [vR 6 r2, vR 25 (jar h (jfr h 147 r0) (ixn x6)), vR 8 (jar h r5 (ixn x6))]) (jgl_rf _ _) (And.intro (Or.inl rfl) (And.intro (Or.inr ⟨_, _, _, rfl, rfl, Or.inr (Or.inr (by rw [e_11]; rfl))⟩) (jgs_rf _ _))) ?_
      refine jw_cR (st := [vR 8 (jar h r5 (ixn x6))]) (sa := [vR 25 (jar h (jfr h 147 r0) (ixn x6)), vR 6 r2]) okX31_at rfl rfl rfl rfl rfl rfl (jstp_up (sa := [vR 6 r2]) (st := [vR 8 (jar h r5 (ixn x6))]) rfl (lw_g (jtb_mem (c := 12) (i := 233) rfl) rfl) um33 okX31_at g_7 (fun _ _ => by rw [e_11]; exact ⟨rfl, rfl⟩) rfl rfl) (w.2.2.2.2.2.1 e_11) (fun v_10 h_8 _ _ _ w => ?_)
      exact w_X40_groups_71 hK21 hK46 w
    · refine jw_gen (ls' := _) (st' := [vR 6 r2, vR 26 (jar h (jfr h 147 r0) (ixn x6)), vR 8 (jar h r5 (ixn x6))]) (jgl_rf _ _) (And.intro (Or.inl rfl) (And.intro (Or.inr ⟨_, _, _, rfl, rfl, Or.inr (Or.inr (by rw [e_11]; rfl))⟩) (jgs_rf _ _))) ?_
      refine jw_cR (st := [vR 8 (jar h r5 (ixn x6))]) (sa := [vR 26 (jar h (jfr h 147 r0) (ixn x6)), vR 6 r2]) okX32_at rfl rfl rfl rfl rfl rfl (jstp_up (sa := [vR 6 r2]) (st := [vR 8 (jar h r5 (ixn x6))]) rfl (lw_g (jtb_mem (c := 12) (i := 233) rfl) rfl) um34 okX32_at g_7 (fun _ _ => by rw [e_11]; exact ⟨rfl, rfl⟩) rfl rfl) (w.2.2.2.2.2.2.1 e_11) (fun v_10 h_8 _ _ _ w => ?_)
      exact w_X40_groups_71 hK21 hK46 w
    · refine jw_gen (ls' := _) (st' := [vR 6 r2, vR 27 (jar h (jfr h 147 r0) (ixn x6)), vR 8 (jar h r5 (ixn x6))]) (jgl_rf _ _) (And.intro (Or.inl rfl) (And.intro (Or.inr ⟨_, _, _, rfl, rfl, Or.inr (Or.inr (by rw [e_11]; rfl))⟩) (jgs_rf _ _))) ?_
      refine jw_cR (st := [vR 8 (jar h r5 (ixn x6))]) (sa := [vR 27 (jar h (jfr h 147 r0) (ixn x6)), vR 6 r2]) okX33_at rfl rfl rfl rfl rfl rfl (jstp_up (sa := [vR 6 r2]) (st := [vR 8 (jar h r5 (ixn x6))]) rfl (lw_g (jtb_mem (c := 12) (i := 233) rfl) rfl) um35 okX33_at g_7 (fun _ _ => by rw [e_11]; exact ⟨rfl, rfl⟩) rfl rfl) (w.2.2.2.2.2.2.2.1 e_11) (fun v_10 h_8 _ _ _ w => ?_)
      exact w_X40_groups_71 hK21 hK46 w
    · refine jw_gen (ls' := _) (st' := [vR 6 r2, vR 28 (jar h (jfr h 147 r0) (ixn x6)), vR 8 (jar h r5 (ixn x6))]) (jgl_rf _ _) (And.intro (Or.inl rfl) (And.intro (Or.inr ⟨_, _, _, rfl, rfl, Or.inr (Or.inr (by rw [e_11]; rfl))⟩) (jgs_rf _ _))) ?_
      refine jw_cR (st := [vR 8 (jar h r5 (ixn x6))]) (sa := [vR 28 (jar h (jfr h 147 r0) (ixn x6)), vR 6 r2]) okX34_at rfl rfl rfl rfl rfl rfl (jstp_up (sa := [vR 6 r2]) (st := [vR 8 (jar h r5 (ixn x6))]) rfl (lw_g (jtb_mem (c := 12) (i := 233) rfl) rfl) um36 okX34_at g_7 (fun _ _ => by rw [e_11]; exact ⟨rfl, rfl⟩) rfl rfl) (w.2.2.2.2.2.2.2.2.1 e_11) (fun v_10 h_8 _ _ _ w => ?_)
      exact w_X40_groups_71 hK21 hK46 w
    · refine jw_gen (ls' := _) (st' := [vR 6 r2, vR 29 (jar h (jfr h 147 r0) (ixn x6)), vR 8 (jar h r5 (ixn x6))]) (jgl_rf _ _) (And.intro (Or.inl rfl) (And.intro (Or.inr ⟨_, _, _, rfl, rfl, Or.inr (Or.inr (by rw [e_11]; rfl))⟩) (jgs_rf _ _))) ?_
      refine jw_cR (st := [vR 8 (jar h r5 (ixn x6))]) (sa := [vR 29 (jar h (jfr h 147 r0) (ixn x6)), vR 6 r2]) okX35_at rfl rfl rfl rfl rfl rfl (jstp_up (sa := [vR 6 r2]) (st := [vR 8 (jar h r5 (ixn x6))]) rfl (lw_g (jtb_mem (c := 12) (i := 233) rfl) rfl) um37 okX35_at g_7 (fun _ _ => by rw [e_11]; exact ⟨rfl, rfl⟩) rfl rfl) (w.2.2.2.2.2.2.2.2.2 e_11) (fun v_10 h_8 _ _ _ w => ?_)
      exact w_X40_groups_71 hK21 hK46 w
def L_X40_groups_46 (D : JD) (d : Nat) (Q : JO → JH → Prop) (K21 : Nat → Nat → Nat → Int32 → Int32 → JH → Prop) : Nat → Nat → Nat → Nat → Int32 → Int32 → Nat → Int32 → JH → Prop
  | 0 => fun _ _ _ _ _ _ _ _ => False
  | n + 1 => fun r0 r1 r2 x3 x4 r5 x6 h => W_X40_groups_46 D d Q K21 (L_X40_groups_46 D d Q K21 n) r0 r1 r2 x3 x4 r5 x6 h
theorem l_X40_groups_46 {D : JD} {d : Nat} {Q : JO → JH → Prop} {K21 : Nat → Nat → Nat → Int32 → Int32 → JH → Prop} (hK21 : ∀ (r0 : Nat) (r1 : Nat) (r2 : Nat) (x3 : Int32) (x4 : Int32) (h : JH), K21 r0 r1 r2 x3 x4 h → JW D (d + 1) mX40_groups 21 [some (vR 33 r0), some (vR 3 r1), some (vR 6 r2), some (vI x3), some (vI x4), none, none] [] h Q) : ∀ (n : Nat) (r0 : Nat) (r1 : Nat) (r2 : Nat) (x3 : Int32) (x4 : Int32) (r5 : Nat) (x6 : Int32) (h : JH), L_X40_groups_46 D d Q K21 n r0 r1 r2 x3 x4 r5 x6 h → JW D (d + 1) mX40_groups 46 [some (vR 33 r0), some (vR 3 r1), some (vR 6 r2), some (vI x3), some (vI x4), some (vR 76 r5), some (vI x6)] [] h Q := by
  intro n
  induction n with
  | zero => intro _ _ _ _ _ _ _ _ w; exact w.elim
  | succ n ih => intro _ _ _ _ _ _ _ h w; exact w_X40_groups_46 hK21 ih w
def W_X40_groups_21 (D : JD) (d : Nat) (Q : JO → JH → Prop) (K21 : Nat → Nat → Nat → Int32 → Int32 → JH → Prop) (r0 : Nat) (r1 : Nat) (r2 : Nat) (x3 : Int32) (x4 : Int32) (h : JH) : Prop :=
  r1 ≠ 0 ∧ (((jfi h 24 r1) ≤ x4 → cX3_members D d r1 x3 h (pV D h (fun h_3 => jsm x3 ∧ ∀ (r_6 : Nat) (h_7 : JH), r_6 = jsz h_3 + 1 → h_7 = nwa h_3 71 (ixn x3) → (∃ n, L_X40_groups_171 D d Q n r0 r1 r2 x3 r_6 (0 : Int32) h_7)) (jth Q))) ∧ (¬ (jfi h 24 r1) ≤ x4 → r2 ≠ 0 ∧ (cX6_take D d r2 x4 h (pV D h (fun h_12 => cX3_key D d r1 x3 h_12 (pR D h_12 76 (fun v_17 h_15 => ∃ n, L_X40_groups_46 D d Q K21 n r0 r1 r2 x3 x4 v_17 (0 : Int32) h_15) (jth Q))) (jth Q)))))
theorem w_X40_groups_21 {D : JD} {d : Nat} {Q : JO → JH → Prop} {K21 : Nat → Nat → Nat → Int32 → Int32 → JH → Prop} {r0 : Nat} {r1 : Nat} {r2 : Nat} {x3 : Int32} {x4 : Int32} {h : JH} (hK21 : ∀ (r0 : Nat) (r1 : Nat) (r2 : Nat) (x3 : Int32) (x4 : Int32) (h : JH), K21 r0 r1 r2 x3 x4 h → JW D (d + 1) mX40_groups 21 [some (vR 33 r0), some (vR 3 r1), some (vR 6 r2), some (vI x3), some (vI x4), none, none] [] h Q) (w : W_X40_groups_21 D d Q K21 r0 r1 r2 x3 x4 h) : JW D (d + 1) mX40_groups 21 [some (vR 33 r0), some (vR 3 r1), some (vR 6 r2), some (vI x3), some (vI x4), none, none] [] h Q := by
  unfold W_X40_groups_21 at w
  refine jw_iload (pc' := 23) rfl rfl ?_
  refine jw_aload_n (pc' := 24) rfl rfl ?_
  obtain ⟨g_1, w⟩ := w
  refine jw_getI (pc' := 27) (F := 24) rfl rfl rfl rfl g_1 ?_
  refine jw_icmp_ge (tgt := 158) (pc' := 30) rfl rfl (fun c_2 => ?_) (fun c_2 => ?_)
  · replace w := w.1 c_2
    refine jw_aload_n (pc' := 159) rfl rfl ?_
    refine jw_iload_n (pc' := 160) rfl rfl ?_
    refine jw_cV (st := []) (sa := [vR 3 r1, vI x3]) okX3_members rfl rfl rfl rfl rfl rfl (jstp_virtual (sa := [vI x3]) (st := []) (k := 0) rfl rfl sX3_members okX3_members g_1 (one3.k g_1) rfl rfl) w (fun h_3 _ _ w => ?_)
    refine jw_iload_n (pc' := 164) rfl rfl ?_
    obtain ⟨g_10, w⟩ := w
    refine jw_newa' (pc' := 166) (n := ixn x3) (k := 71) rfl rfl rfl rfl rfl rfl (lw_g (jtb_mem (c := 9) (i := 151) rfl) rfl) g_10.ix g_10.b1 (fun r_6 h_7 e_8 e_9 => ?_)
    replace w := w r_6 h_7 e_8 e_9
    refine jw_astore (pc' := 168) (ls' := [some (vR 33 r0), some (vR 3 r1), some (vR 6 r2), some (vI x3), some (vR 71 r_6), none, none]) rfl (by decide) rfl ?_
    refine jw_iconst (pc' := 169) (x := (0 : Int32)) rfl rfl ?_
    refine jw_istore (pc' := 171) (ls' := [some (vR 33 r0), some (vR 3 r1), some (vR 6 r2), some (vI x3), some (vR 71 r_6), some (vI (0 : Int32)), none]) rfl (by decide) rfl ?_
    obtain ⟨n, w⟩ := w
    exact l_X40_groups_171 n _ _ _ _ _ _ _ w
  · replace w := w.2 c_2
    refine jw_aload_n (pc' := 31) rfl rfl ?_
    refine jw_iload (pc' := 33) rfl rfl ?_
    obtain ⟨g_11, w⟩ := w
    refine jw_cV (st := []) (sa := [vR 6 r2, vI x4]) okX6_take rfl rfl rfl rfl rfl rfl (jstp_virtual (sa := [vI x4]) (st := []) (k := 0) rfl rfl sX6_take okX6_take g_11 (one6.k g_11) rfl rfl) w (fun h_12 _ _ w => ?_)
    refine jw_aload_n (pc' := 37) rfl rfl ?_
    refine jw_iload_n (pc' := 38) rfl rfl ?_
    refine jw_cR (st := []) (sa := [vR 3 r1, vI x3]) okX3_key rfl rfl rfl rfl rfl rfl (jstp_virtual (sa := [vI x3]) (st := []) (k := 0) rfl rfl sX3_key okX3_key g_1 (one3.k g_1) rfl rfl) w (fun v_17 h_15 _ _ _ w => ?_)
    refine jw_astore (pc' := 43) (ls' := [some (vR 33 r0), some (vR 3 r1), some (vR 6 r2), some (vI x3), some (vI x4), some (vR 76 v_17), none]) rfl (by decide) rfl ?_
    refine jw_iconst (pc' := 44) (x := (0 : Int32)) rfl rfl ?_
    refine jw_istore (pc' := 46) (ls' := [some (vR 33 r0), some (vR 3 r1), some (vR 6 r2), some (vI x3), some (vI x4), some (vR 76 v_17), some (vI (0 : Int32))]) rfl (by decide) rfl ?_
    obtain ⟨n, w⟩ := w
    exact l_X40_groups_46 hK21 n _ _ _ _ _ _ _ _ w
def L_X40_groups_21 (D : JD) (d : Nat) (Q : JO → JH → Prop) : Nat → Nat → Nat → Nat → Int32 → Int32 → JH → Prop
  | 0 => fun _ _ _ _ _ _ => False
  | n + 1 => fun r0 r1 r2 x3 x4 h => W_X40_groups_21 D d Q (L_X40_groups_21 D d Q n) r0 r1 r2 x3 x4 h
theorem l_X40_groups_21 {D : JD} {d : Nat} {Q : JO → JH → Prop} : ∀ (n : Nat) (r0 : Nat) (r1 : Nat) (r2 : Nat) (x3 : Int32) (x4 : Int32) (h : JH), L_X40_groups_21 D d Q n r0 r1 r2 x3 x4 h → JW D (d + 1) mX40_groups 21 [some (vR 33 r0), some (vR 3 r1), some (vR 6 r2), some (vI x3), some (vI x4), none, none] [] h Q := by
  intro n
  induction n with
  | zero => intro _ _ _ _ _ _ w; exact w.elim
  | succ n ih => intro _ _ _ _ _ h w; exact w_X40_groups_21 ih w
def W_X40_groups_17 (D : JD) (d : Nat) (Q : JO → JH → Prop) (r0 : Nat) (r1 : Nat) (r2 : Nat) (s0 : Int32) (h : JH) : Prop :=
  ∃ n, L_X40_groups_21 D d Q n r0 r1 r2 s0 (0 : Int32) h
theorem w_X40_groups_17 {D : JD} {d : Nat} {Q : JO → JH → Prop} {r0 : Nat} {r1 : Nat} {r2 : Nat} {s0 : Int32} {h : JH} (w : W_X40_groups_17 D d Q r0 r1 r2 s0 h) : JW D (d + 1) mX40_groups 17 [some (vR 33 r0), some (vR 3 r1), some (vR 6 r2), none, none, none, none] [vI s0] h Q := by
  unfold W_X40_groups_17 at w
  refine jw_istore_n (pc' := 18) (ls' := [some (vR 33 r0), some (vR 3 r1), some (vR 6 r2), some (vI s0), none, none, none]) rfl (by decide) rfl ?_
  refine jw_iconst (pc' := 19) (x := (0 : Int32)) rfl rfl ?_
  refine jw_istore (pc' := 21) (ls' := [some (vR 33 r0), some (vR 3 r1), some (vR 6 r2), some (vI s0), some (vI (0 : Int32)), none, none]) rfl (by decide) rfl ?_
  obtain ⟨n, w⟩ := w
  exact l_X40_groups_21 n _ _ _ _ _ _ w
def W_X40_groups_0 (D : JD) (d : Nat) (Q : JO → JH → Prop) (r0 : Nat) (r1 : Nat) (h : JH) : Prop :=
  r1 ≠ 0 ∧ (r0 ≠ 0 ∧ ((¬ (jfi h 148 r0) = 0 → W_X40_groups_17 D d Q r0 r1 (jfr h 23 r1) (0 : Int32) h) ∧ ((jfi h 148 r0) = 0 → W_X40_groups_17 D d Q r0 r1 (jfr h 23 r1) (1 : Int32) h)))
theorem w_X40_groups_0 {D : JD} {d : Nat} {Q : JO → JH → Prop} {r0 : Nat} {r1 : Nat} {h : JH} (w : W_X40_groups_0 D d Q r0 r1 h) : JW D (d + 1) mX40_groups 0 [some (vR 33 r0), some (vR 3 r1), none, none, none, none, none] [] h Q := by
  unfold W_X40_groups_0 at w
  refine jw_aload_n (pc' := 1) rfl rfl ?_
  obtain ⟨g_1, w⟩ := w
  refine jw_getR (pc' := 4) (F := 23) (t' := 6) rfl rfl rfl rfl rfl g_1 ?_
  refine jw_astore_n (pc' := 5) (ls' := [some (vR 33 r0), some (vR 3 r1), some (vR 6 (jfr h 23 r1)), none, none, none, none]) rfl (by decide) rfl ?_
  refine jw_aload_n (pc' := 6) rfl rfl ?_
  obtain ⟨g_2, w⟩ := w
  refine jw_getI (pc' := 9) (F := 148) rfl rfl rfl rfl g_2 ?_
  refine jw_if_ne (tgt := 16) (pc' := 12) rfl rfl (fun c_3 => ?_) (fun c_3 => ?_)
  · replace w := w.1 c_3
    refine jw_iconst (pc' := 17) (x := (0 : Int32)) rfl rfl ?_
    exact w_X40_groups_17 w
  · replace w := w.2 c_3
    refine jw_iconst (pc' := 13) (x := (1 : Int32)) rfl rfl ?_
    refine jw_goto (pc' := 17) rfl rfl ?_
    exact w_X40_groups_17 w
def T_X40_groups (D : JD) (d : Nat) (Q : JO → JH → Prop) (r0 : Nat) (r1 : Nat) (h : JH) : Prop := W_X40_groups_0 D d Q r0 r1 h
theorem t_X40_groups {D : JD} {d : Nat} {Q : JO → JH → Prop} {r0 : Nat} {r1 : Nat} {h : JH} (w : T_X40_groups D d Q r0 r1 h) : cX40_groups D (d + 1) r0 r1 h Q := by
  unfold T_X40_groups at w
  unfold cX40_groups
  exact w_X40_groups_0 w
def W_X40_alike_2 (D : JD) (d : Nat) (Q : JO → JH → Prop) (K2 : Nat → Nat → Int32 → Int32 → JH → Prop) (r0 : Nat) (r1 : Nat) (x2 : Int32) (x3 : Int32) (h : JH) : Prop :=
  (x2 ≤ x3 → Q (.inl (some (vI (1 : Int32)))) h) ∧ (¬ x2 ≤ x3 → r0 ≠ 0 ∧ jin x3 (jln h r0) ∧ (r1 ≠ 0 ∧ jin x3 (jln h r1) ∧ ((jar h r0 (ixn x3)) ≠ 0 ∧ (cX14_alike D d (jar h r0 (ixn x3)) (jar h r1 (ixn x3)) h (pI D h (fun v_9 h_7 => (¬ v_9 = 0 → K2 r0 r1 x2 (x3 + (1 : Int32)) h_7) ∧ (v_9 = 0 → Q (.inl (some (vI (0 : Int32)))) h_7)) (jth Q))))))
theorem w_X40_alike_2 {D : JD} {d : Nat} {Q : JO → JH → Prop} {K2 : Nat → Nat → Int32 → Int32 → JH → Prop} {r0 : Nat} {r1 : Nat} {x2 : Int32} {x3 : Int32} {h : JH} (hK2 : ∀ (r0 : Nat) (r1 : Nat) (x2 : Int32) (x3 : Int32) (h : JH), K2 r0 r1 x2 x3 h → JW D (d + 1) mX40_alike 2 [some (vR 76 r0), some (vR 76 r1), some (vI x2), some (vI x3)] [] h Q) (w : W_X40_alike_2 D d Q K2 r0 r1 x2 x3 h) : JW D (d + 1) mX40_alike 2 [some (vR 76 r0), some (vR 76 r1), some (vI x2), some (vI x3)] [] h Q := by
  unfold W_X40_alike_2 at w
  refine jw_iload_n (pc' := 3) rfl rfl ?_
  refine jw_iload_n (pc' := 4) rfl rfl ?_
  refine jw_icmp_ge (tgt := 27) (pc' := 7) rfl rfl (fun c_1 => ?_) (fun c_1 => ?_)
  · replace w := w.1 c_1
    refine jw_iconst (pc' := 28) (x := (1 : Int32)) rfl rfl ?_
    exact jw_ireturn rfl rfl (rfl) w
  · replace w := w.2 c_1
    refine jw_aload_n (pc' := 8) rfl rfl ?_
    refine jw_iload_n (pc' := 9) rfl rfl ?_
    obtain ⟨g_2, w⟩ := w
    obtain ⟨g_3, w⟩ := w
    refine jw_aald (pc' := 10) (t' := 8) rfl rfl rfl rfl g_2 g_3.ix g_3.2 ?_
    refine jw_aload_n (pc' := 11) rfl rfl ?_
    refine jw_iload_n (pc' := 12) rfl rfl ?_
    obtain ⟨g_4, w⟩ := w
    obtain ⟨g_5, w⟩ := w
    refine jw_aald (pc' := 13) (t' := 8) rfl rfl rfl rfl g_4 g_5.ix g_5.2 ?_
    obtain ⟨g_6, w⟩ := w
    refine jw_cI (st := []) (sa := [vR 8 (jar h r0 (ixn x3)), vR 8 (jar h r1 (ixn x3))]) okX14_alike rfl rfl rfl rfl rfl rfl (jstp_virtual (sa := [vR 8 (jar h r1 (ixn x3))]) (st := []) (k := 0) rfl rfl sX14_alike okX14_alike g_6 (one8.k g_6) rfl rfl) w (fun v_9 h_7 _ _ w => ?_)
    refine jw_if_ne (tgt := 21) (pc' := 19) rfl rfl (fun c_10 => ?_) (fun c_10 => ?_)
    · replace w := w.1 c_10
      refine jw_iinc (pc' := 24) (y := x3 + (1 : Int32)) (ls' := [some (vR 76 r0), some (vR 76 r1), some (vI x2), some (vI (x3 + (1 : Int32)))]) rfl (by decide) rfl rfl rfl ?_
      refine jw_goto (pc' := 2) rfl rfl ?_
      exact hK2 _ _ _ _ _ w
    · replace w := w.2 c_10
      refine jw_iconst (pc' := 20) (x := (0 : Int32)) rfl rfl ?_
      exact jw_ireturn rfl rfl (rfl) w
def L_X40_alike_2 (D : JD) (d : Nat) (Q : JO → JH → Prop) : Nat → Nat → Nat → Int32 → Int32 → JH → Prop
  | 0 => fun _ _ _ _ _ => False
  | n + 1 => fun r0 r1 x2 x3 h => W_X40_alike_2 D d Q (L_X40_alike_2 D d Q n) r0 r1 x2 x3 h
theorem l_X40_alike_2 {D : JD} {d : Nat} {Q : JO → JH → Prop} : ∀ (n : Nat) (r0 : Nat) (r1 : Nat) (x2 : Int32) (x3 : Int32) (h : JH), L_X40_alike_2 D d Q n r0 r1 x2 x3 h → JW D (d + 1) mX40_alike 2 [some (vR 76 r0), some (vR 76 r1), some (vI x2), some (vI x3)] [] h Q := by
  intro n
  induction n with
  | zero => intro _ _ _ _ _ w; exact w.elim
  | succ n ih => intro _ _ _ _ h w; exact w_X40_alike_2 ih w
def W_X40_alike_0 (D : JD) (d : Nat) (Q : JO → JH → Prop) (r0 : Nat) (r1 : Nat) (x2 : Int32) (h : JH) : Prop :=
  ∃ n, L_X40_alike_2 D d Q n r0 r1 x2 (0 : Int32) h
theorem w_X40_alike_0 {D : JD} {d : Nat} {Q : JO → JH → Prop} {r0 : Nat} {r1 : Nat} {x2 : Int32} {h : JH} (w : W_X40_alike_0 D d Q r0 r1 x2 h) : JW D (d + 1) mX40_alike 0 [some (vR 76 r0), some (vR 76 r1), some (vI x2), none] [] h Q := by
  unfold W_X40_alike_0 at w
  refine jw_iconst (pc' := 1) (x := (0 : Int32)) rfl rfl ?_
  refine jw_istore_n (pc' := 2) (ls' := [some (vR 76 r0), some (vR 76 r1), some (vI x2), some (vI (0 : Int32))]) rfl (by decide) rfl ?_
  obtain ⟨n, w⟩ := w
  exact l_X40_alike_2 n _ _ _ _ _ w
def T_X40_alike (D : JD) (d : Nat) (Q : JO → JH → Prop) (r0 : Nat) (r1 : Nat) (x2 : Int32) (h : JH) : Prop := W_X40_alike_0 D d Q r0 r1 x2 h
theorem t_X40_alike {D : JD} {d : Nat} {Q : JO → JH → Prop} {r0 : Nat} {r1 : Nat} {x2 : Int32} {h : JH} (w : T_X40_alike D d Q r0 r1 x2 h) : cX40_alike D (d + 1) r0 r1 x2 h Q := by
  unfold T_X40_alike at w
  unfold cX40_alike
  exact w_X40_alike_0 w
def W_X40_worked_94 (D : JD) (d : Nat) (Q : JO → JH → Prop) (K47 : Nat → Nat → Nat → Int32 → JH → Prop) (r0 : Nat) (r1 : Nat) (r2 : Nat) (x3 : Int32) (q0 : Nat) (q1 : Nat) (h : JH) : Prop :=
  q0 ≠ 0 ∧ (cX14_copy D d q0 q1 h (pR D h 8 (fun v_4 h_2 => K47 r0 r1 r2 (x3 + (1 : Int32)) h_2) (jth Q)))
theorem w_X40_worked_94 {D : JD} {d : Nat} {Q : JO → JH → Prop} {K47 : Nat → Nat → Nat → Int32 → JH → Prop} {r0 : Nat} {r1 : Nat} {r2 : Nat} {x3 : Int32} {q0 : Nat} {q1 : Nat} {h : JH} (hK47 : ∀ (r0 : Nat) (r1 : Nat) (r2 : Nat) (x3 : Int32) (h : JH), K47 r0 r1 r2 x3 h → JW D (d + 1) mX40_worked 47 [some (vR 33 r0), some (vR 3 r1), some (vR 76 r2), some (vI x3), none] [] h Q) (w : W_X40_worked_94 D d Q K47 r0 r1 r2 x3 q0 q1 h) : JW D (d + 1) mX40_worked 94 [some (vR 33 r0), some (vR 3 r1), some (vR 76 r2), some (vI x3), none] [vR 8 q1, vR 8 q0] h Q := by
  unfold W_X40_worked_94 at w
  obtain ⟨g_1, w⟩ := w
  refine jw_cR (st := []) (sa := [vR 8 q0, vR 8 q1]) okX14_copy rfl rfl rfl rfl rfl rfl (jstp_virtual (sa := [vR 8 q1]) (st := []) (k := 0) rfl rfl sX14_copy okX14_copy g_1 (one8.k g_1) rfl rfl) w (fun v_4 h_2 _ _ _ w => ?_)
  refine jw_pop (pc' := 98) rfl rfl ?_
  refine jw_iinc (pc' := 101) (y := x3 + (1 : Int32)) (ls' := [some (vR 33 r0), some (vR 3 r1), some (vR 76 r2), some (vI (x3 + (1 : Int32))), none]) rfl (by decide) rfl rfl rfl ?_
  refine jw_goto (pc' := 47) rfl rfl ?_
  exact hK47 _ _ _ _ _ w
def W_X40_worked_87 (D : JD) (d : Nat) (Q : JO → JH → Prop) (K47 : Nat → Nat → Nat → Int32 → JH → Prop) (r0 : Nat) (r1 : Nat) (r2 : Nat) (x3 : Int32) (q0 : Nat) (q1 : Nat) (h : JH) : Prop :=
  W_X40_worked_94 D d Q K47 r0 r1 r2 x3 q0 q1 h
theorem w_X40_worked_87 {D : JD} {d : Nat} {Q : JO → JH → Prop} {K47 : Nat → Nat → Nat → Int32 → JH → Prop} {r0 : Nat} {r1 : Nat} {r2 : Nat} {x3 : Int32} {q0 : Nat} {q1 : Nat} {h : JH} (hK47 : ∀ (r0 : Nat) (r1 : Nat) (r2 : Nat) (x3 : Int32) (h : JH), K47 r0 r1 r2 x3 h → JW D (d + 1) mX40_worked 47 [some (vR 33 r0), some (vR 3 r1), some (vR 76 r2), some (vI x3), none] [] h Q) (w : W_X40_worked_87 D d Q K47 r0 r1 r2 x3 q0 q1 h) : JW D (d + 1) mX40_worked 87 [some (vR 33 r0), some (vR 3 r1), some (vR 76 r2), some (vI x3), none] [vR 8 q1, vR 8 q0] h Q := by
  unfold W_X40_worked_87 at w
  refine jw_goto (pc' := 94) rfl rfl ?_
  exact w_X40_worked_94 hK47 w
def W_X40_worked_47 (D : JD) (d : Nat) (Q : JO → JH → Prop) (K47 : Nat → Nat → Nat → Int32 → JH → Prop) (r0 : Nat) (r1 : Nat) (r2 : Nat) (x3 : Int32) (h : JH) : Prop :=
  r0 ≠ 0 ∧ (((jfi h 153 r0) ≤ x3 → r1 ≠ 0 ∧ ((jfr h 32 r1) ≠ 0 ∧ jin (jfi h 33 r1) (jln h (jfr h 32 r1)) ∧ ∀ h_6 : JH, h_6 = wai h (jfr h 32 r1) (ixn (jfi h 33 r1)) (jfi h 33 r1) → (∀ h_8 : JH, h_8 = wfi h_6 33 r1 ((jfi h_6 33 r1) + (1 : Int32)) → (Q (.inl none) h_8)))) ∧ (¬ (jfi h 153 r0) ≤ x3 → (jfr h 152 r0) ≠ 0 ∧ jin x3 (jln h (jfr h 152 r0)) ∧ (r2 ≠ 0 ∧ jin ((16 : Int32) + x3) (jln h r2) ∧ ((0 ≤ (jai h (jfr h 152 r0) (ixn x3)) → jin (jai h (jfr h 152 r0) (ixn x3)) (jln h r2) ∧ (W_X40_worked_94 D d Q K47 r0 r1 r2 x3 (jar h r2 (ixn ((16 : Int32) + x3))) (jar h r2 (ixn (jai h (jfr h 152 r0) (ixn x3)))) h)) ∧ (¬ 0 ≤ (jai h (jfr h 152 r0) (ixn x3)) → (jfr h 150 r0) ≠ 0 ∧ jin x3 (jln h (jfr h 150 r0)) ∧ (r1 ≠ 0 ∧ ((jar h (jfr h 150 r0) (ixn x3)) ≠ 0 ∧ (v55_at D d (jar h (jfr h 150 r0) (ixn x3)) (jfr h 23 r1) h (pR D h 8 (fun v_22 h_20 => W_X40_worked_87 D d Q K47 r0 r1 r2 x3 (jar h r2 (ixn ((16 : Int32) + x3))) v_22 h_20) (jth Q))))))))))
theorem w_X40_worked_47 {D : JD} {d : Nat} {Q : JO → JH → Prop} {K47 : Nat → Nat → Nat → Int32 → JH → Prop} {r0 : Nat} {r1 : Nat} {r2 : Nat} {x3 : Int32} {h : JH} (hK47 : ∀ (r0 : Nat) (r1 : Nat) (r2 : Nat) (x3 : Int32) (h : JH), K47 r0 r1 r2 x3 h → JW D (d + 1) mX40_worked 47 [some (vR 33 r0), some (vR 3 r1), some (vR 76 r2), some (vI x3), none] [] h Q) (w : W_X40_worked_47 D d Q K47 r0 r1 r2 x3 h) : JW D (d + 1) mX40_worked 47 [some (vR 33 r0), some (vR 3 r1), some (vR 76 r2), some (vI x3), none] [] h Q := by
  unfold W_X40_worked_47 at w
  refine jw_iload_n (pc' := 48) rfl rfl ?_
  refine jw_aload_n (pc' := 49) rfl rfl ?_
  obtain ⟨g_1, w⟩ := w
  refine jw_getI (pc' := 52) (F := 153) rfl rfl rfl rfl g_1 ?_
  refine jw_icmp_ge (tgt := 104) (pc' := 55) rfl rfl (fun c_2 => ?_) (fun c_2 => ?_)
  · replace w := w.1 c_2
    refine jw_aload_n (pc' := 105) rfl rfl ?_
    obtain ⟨g_3, w⟩ := w
    refine jw_getR (pc' := 108) (F := 32) (t' := 136) rfl rfl rfl rfl rfl g_3 ?_
    refine jw_aload_n (pc' := 109) rfl rfl ?_
    refine jw_getI (pc' := 112) (F := 33) rfl rfl rfl rfl g_3 ?_
    refine jw_aload_n (pc' := 113) rfl rfl ?_
    refine jw_getI (pc' := 116) (F := 33) rfl rfl rfl rfl g_3 ?_
    obtain ⟨g_4, w⟩ := w
    obtain ⟨g_5, w⟩ := w
    refine jw_iast' (pc' := 117) rfl rfl rfl rfl rfl g_4 g_5 (fun h_6 e_7 => ?_)
    replace w := w h_6 e_7
    refine jw_aload_n (pc' := 118) rfl rfl ?_
    refine jw_dup (pc' := 119) rfl rfl ?_
    refine jw_getI (pc' := 122) (F := 33) rfl rfl rfl rfl g_3 ?_
    refine jw_iconst (pc' := 123) (x := (1 : Int32)) rfl rfl ?_
    refine jw_iadd (pc' := 124) rfl ?_
    refine jw_putI' (pc' := 127) (F := 33) rfl rfl rfl (Or.inr rfl) (Or.inl rfl) rfl (rfl) (rfl) rfl g_3 (fun h_8 e_9 => ?_)
    replace w := w h_8 e_9
    exact jw_return rfl rfl w
  · replace w := w.2 c_2
    refine jw_aload_n (pc' := 56) rfl rfl ?_
    refine jw_getR (pc' := 59) (F := 152) (t' := 157) rfl rfl rfl rfl rfl g_1 ?_
    refine jw_iload_n (pc' := 60) rfl rfl ?_
    obtain ⟨g_10, w⟩ := w
    obtain ⟨g_11, w⟩ := w
    refine jw_iald (pc' := 61) rfl rfl rfl rfl g_10 g_11.ix g_11.2 ?_
    refine jw_istore (pc' := 63) (ls' := [some (vR 33 r0), some (vR 3 r1), some (vR 76 r2), some (vI x3), some (vI (jai h (jfr h 152 r0) (ixn x3)))]) rfl (by decide) rfl ?_
    refine jw_aload_n (pc' := 64) rfl rfl ?_
    refine jw_bipush (pc' := 66) (x := (16 : Int32)) rfl rfl ?_
    refine jw_iload_n (pc' := 67) rfl rfl ?_
    refine jw_iadd (pc' := 68) rfl ?_
    obtain ⟨g_12, w⟩ := w
    obtain ⟨g_13, w⟩ := w
    refine jw_aald (pc' := 69) (t' := 8) rfl rfl rfl rfl g_12 g_13.ix g_13.2 ?_
    refine jw_iload (pc' := 71) rfl rfl ?_
    refine jw_if_ge (tgt := 90) (pc' := 74) rfl rfl (fun c_14 => ?_) (fun c_14 => ?_)
    · replace w := w.1 c_14
      refine jw_aload_n (pc' := 91) rfl rfl ?_
      refine jw_iload (pc' := 93) rfl rfl ?_
      obtain ⟨g_15, w⟩ := w
      refine jw_aald (pc' := 94) (t' := 8) rfl rfl rfl rfl g_12 g_15.ix g_15.2 ?_
      refine jw_gen (ls' := [some (vR 33 r0), some (vR 3 r1), some (vR 76 r2), some (vI x3), none]) (st' := [vR 8 (jar h r2 (ixn (jai h (jfr h 152 r0) (ixn x3)))), vR 8 (jar h r2 (ixn ((16 : Int32) + x3)))]) (And.intro (Or.inl rfl) (And.intro (Or.inl rfl) (And.intro (Or.inl rfl) (And.intro (Or.inl rfl) (trivial))))) (And.intro (Or.inl rfl) (And.intro (Or.inl rfl) (trivial))) ?_
      exact w_X40_worked_94 hK47 w
    · replace w := w.2 c_14
      refine jw_aload_n (pc' := 75) rfl rfl ?_
      refine jw_getR (pc' := 78) (F := 150) (t' := 155) rfl rfl rfl rfl rfl g_1 ?_
      refine jw_iload_n (pc' := 79) rfl rfl ?_
      obtain ⟨g_16, w⟩ := w
      obtain ⟨g_17, w⟩ := w
      refine jw_aald (pc' := 80) (t' := 55) rfl rfl rfl rfl g_16 g_17.ix g_17.2 ?_
      refine jw_aload_n (pc' := 81) rfl rfl ?_
      obtain ⟨g_18, w⟩ := w
      refine jw_getR (pc' := 84) (F := 23) (t' := 6) rfl rfl rfl rfl rfl g_18 ?_
      obtain ⟨g_19, w⟩ := w
      refine JW.inv (fun hI => JW.oks (fun ho => ?_))
      have hkd := und55.k hI (ho (vR 55 (jar h (jfr h 150 r0) (ixn x3))) (by simp)) g_19
      simp only [List.mem_cons, List.not_mem_nil, or_false] at hkd
      clear ho hI
      rcases hkd with e_23 | e_23 | e_23 | e_23 | e_23 | e_23 | e_23 | e_23 | e_23 | e_23
      · refine jw_gen (ls' := _) (st' := [vR 6 (jfr h 23 r1), vR 20 (jar h (jfr h 150 r0) (ixn x3)), vR 8 (jar h r2 (ixn ((16 : Int32) + x3)))]) (jgl_rf _ _) (And.intro (Or.inl rfl) (And.intro (Or.inr ⟨_, _, _, rfl, rfl, Or.inr (Or.inr (by rw [e_23]; rfl))⟩) (jgs_rf _ _))) ?_
        refine jw_cR (st := [vR 8 (jar h r2 (ixn ((16 : Int32) + x3)))]) (sa := [vR 20 (jar h (jfr h 150 r0) (ixn x3)), vR 6 (jfr h 23 r1)]) okX25_at rfl rfl rfl rfl rfl rfl (jstp_up (sa := [vR 6 (jfr h 23 r1)]) (st := [vR 8 (jar h r2 (ixn ((16 : Int32) + x3)))]) rfl (lw_g (jtb_mem (c := 12) (i := 233) rfl) rfl) um28 okX25_at g_19 (fun _ _ => by rw [e_23]; exact ⟨rfl, rfl⟩) rfl rfl) (w.1 e_23) (fun v_22 h_20 _ _ _ w => ?_)
        refine jw_gen (ls' := [some (vR 33 r0), some (vR 3 r1), some (vR 76 r2), some (vI x3), none]) (st' := [vR 8 v_22, vR 8 (jar h r2 (ixn ((16 : Int32) + x3)))]) (And.intro (Or.inl rfl) (And.intro (Or.inl rfl) (And.intro (Or.inl rfl) (And.intro (Or.inl rfl) (trivial))))) (And.intro (Or.inl rfl) (And.intro (Or.inl rfl) (trivial))) ?_
        exact w_X40_worked_87 hK47 w
      · refine jw_gen (ls' := _) (st' := [vR 6 (jfr h 23 r1), vR 21 (jar h (jfr h 150 r0) (ixn x3)), vR 8 (jar h r2 (ixn ((16 : Int32) + x3)))]) (jgl_rf _ _) (And.intro (Or.inl rfl) (And.intro (Or.inr ⟨_, _, _, rfl, rfl, Or.inr (Or.inr (by rw [e_23]; rfl))⟩) (jgs_rf _ _))) ?_
        refine jw_cR (st := [vR 8 (jar h r2 (ixn ((16 : Int32) + x3)))]) (sa := [vR 21 (jar h (jfr h 150 r0) (ixn x3)), vR 6 (jfr h 23 r1)]) okX27_at rfl rfl rfl rfl rfl rfl (jstp_up (sa := [vR 6 (jfr h 23 r1)]) (st := [vR 8 (jar h r2 (ixn ((16 : Int32) + x3)))]) rfl (lw_g (jtb_mem (c := 12) (i := 233) rfl) rfl) um29 okX27_at g_19 (fun _ _ => by rw [e_23]; exact ⟨rfl, rfl⟩) rfl rfl) (w.2.1 e_23) (fun v_22 h_20 _ _ _ w => ?_)
        refine jw_gen (ls' := [some (vR 33 r0), some (vR 3 r1), some (vR 76 r2), some (vI x3), none]) (st' := [vR 8 v_22, vR 8 (jar h r2 (ixn ((16 : Int32) + x3)))]) (And.intro (Or.inl rfl) (And.intro (Or.inl rfl) (And.intro (Or.inl rfl) (And.intro (Or.inl rfl) (trivial))))) (And.intro (Or.inl rfl) (And.intro (Or.inl rfl) (trivial))) ?_
        exact w_X40_worked_87 hK47 w
      · refine jw_gen (ls' := _) (st' := [vR 6 (jfr h 23 r1), vR 22 (jar h (jfr h 150 r0) (ixn x3)), vR 8 (jar h r2 (ixn ((16 : Int32) + x3)))]) (jgl_rf _ _) (And.intro (Or.inl rfl) (And.intro (Or.inr ⟨_, _, _, rfl, rfl, Or.inr (Or.inr (by rw [e_23]; rfl))⟩) (jgs_rf _ _))) ?_
        refine jw_cR (st := [vR 8 (jar h r2 (ixn ((16 : Int32) + x3)))]) (sa := [vR 22 (jar h (jfr h 150 r0) (ixn x3)), vR 6 (jfr h 23 r1)]) okX28_at rfl rfl rfl rfl rfl rfl (jstp_up (sa := [vR 6 (jfr h 23 r1)]) (st := [vR 8 (jar h r2 (ixn ((16 : Int32) + x3)))]) rfl (lw_g (jtb_mem (c := 12) (i := 233) rfl) rfl) um30 okX28_at g_19 (fun _ _ => by rw [e_23]; exact ⟨rfl, rfl⟩) rfl rfl) (w.2.2.1 e_23) (fun v_22 h_20 _ _ _ w => ?_)
        refine jw_gen (ls' := [some (vR 33 r0), some (vR 3 r1), some (vR 76 r2), some (vI x3), none]) (st' := [vR 8 v_22, vR 8 (jar h r2 (ixn ((16 : Int32) + x3)))]) (And.intro (Or.inl rfl) (And.intro (Or.inl rfl) (And.intro (Or.inl rfl) (And.intro (Or.inl rfl) (trivial))))) (And.intro (Or.inl rfl) (And.intro (Or.inl rfl) (trivial))) ?_
        exact w_X40_worked_87 hK47 w
      · refine jw_gen (ls' := _) (st' := [vR 6 (jfr h 23 r1), vR 23 (jar h (jfr h 150 r0) (ixn x3)), vR 8 (jar h r2 (ixn ((16 : Int32) + x3)))]) (jgl_rf _ _) (And.intro (Or.inl rfl) (And.intro (Or.inr ⟨_, _, _, rfl, rfl, Or.inr (Or.inr (by rw [e_23]; rfl))⟩) (jgs_rf _ _))) ?_
        refine jw_cR (st := [vR 8 (jar h r2 (ixn ((16 : Int32) + x3)))]) (sa := [vR 23 (jar h (jfr h 150 r0) (ixn x3)), vR 6 (jfr h 23 r1)]) okX29_at rfl rfl rfl rfl rfl rfl (jstp_up (sa := [vR 6 (jfr h 23 r1)]) (st := [vR 8 (jar h r2 (ixn ((16 : Int32) + x3)))]) rfl (lw_g (jtb_mem (c := 12) (i := 233) rfl) rfl) um31 okX29_at g_19 (fun _ _ => by rw [e_23]; exact ⟨rfl, rfl⟩) rfl rfl) (w.2.2.2.1 e_23) (fun v_22 h_20 _ _ _ w => ?_)
        refine jw_gen (ls' := [some (vR 33 r0), some (vR 3 r1), some (vR 76 r2), some (vI x3), none]) (st' := [vR 8 v_22, vR 8 (jar h r2 (ixn ((16 : Int32) + x3)))]) (And.intro (Or.inl rfl) (And.intro (Or.inl rfl) (And.intro (Or.inl rfl) (And.intro (Or.inl rfl) (trivial))))) (And.intro (Or.inl rfl) (And.intro (Or.inl rfl) (trivial))) ?_
        exact w_X40_worked_87 hK47 w
      · refine jw_gen (ls' := _) (st' := [vR 6 (jfr h 23 r1), vR 24 (jar h (jfr h 150 r0) (ixn x3)), vR 8 (jar h r2 (ixn ((16 : Int32) + x3)))]) (jgl_rf _ _) (And.intro (Or.inl rfl) (And.intro (Or.inr ⟨_, _, _, rfl, rfl, Or.inr (Or.inr (by rw [e_23]; rfl))⟩) (jgs_rf _ _))) ?_
        refine jw_cR (st := [vR 8 (jar h r2 (ixn ((16 : Int32) + x3)))]) (sa := [vR 24 (jar h (jfr h 150 r0) (ixn x3)), vR 6 (jfr h 23 r1)]) okX30_at rfl rfl rfl rfl rfl rfl (jstp_up (sa := [vR 6 (jfr h 23 r1)]) (st := [vR 8 (jar h r2 (ixn ((16 : Int32) + x3)))]) rfl (lw_g (jtb_mem (c := 12) (i := 233) rfl) rfl) um32 okX30_at g_19 (fun _ _ => by rw [e_23]; exact ⟨rfl, rfl⟩) rfl rfl) (w.2.2.2.2.1 e_23) (fun v_22 h_20 _ _ _ w => ?_)
        refine jw_gen (ls' := [some (vR 33 r0), some (vR 3 r1), some (vR 76 r2), some (vI x3), none]) (st' := [vR 8 v_22, vR 8 (jar h r2 (ixn ((16 : Int32) + x3)))]) (And.intro (Or.inl rfl) (And.intro (Or.inl rfl) (And.intro (Or.inl rfl) (And.intro (Or.inl rfl) (trivial))))) (And.intro (Or.inl rfl) (And.intro (Or.inl rfl) (trivial))) ?_
        exact w_X40_worked_87 hK47 w
      · refine jw_gen (ls' := _) (st' := [vR 6 (jfr h 23 r1), vR 25 (jar h (jfr h 150 r0) (ixn x3)), vR 8 (jar h r2 (ixn ((16 : Int32) + x3)))]) (jgl_rf _ _) (And.intro (Or.inl rfl) (And.intro (Or.inr ⟨_, _, _, rfl, rfl, Or.inr (Or.inr (by rw [e_23]; rfl))⟩) (jgs_rf _ _))) ?_
        refine jw_cR (st := [vR 8 (jar h r2 (ixn ((16 : Int32) + x3)))]) (sa := [vR 25 (jar h (jfr h 150 r0) (ixn x3)), vR 6 (jfr h 23 r1)]) okX31_at rfl rfl rfl rfl rfl rfl (jstp_up (sa := [vR 6 (jfr h 23 r1)]) (st := [vR 8 (jar h r2 (ixn ((16 : Int32) + x3)))]) rfl (lw_g (jtb_mem (c := 12) (i := 233) rfl) rfl) um33 okX31_at g_19 (fun _ _ => by rw [e_23]; exact ⟨rfl, rfl⟩) rfl rfl) (w.2.2.2.2.2.1 e_23) (fun v_22 h_20 _ _ _ w => ?_)
        refine jw_gen (ls' := [some (vR 33 r0), some (vR 3 r1), some (vR 76 r2), some (vI x3), none]) (st' := [vR 8 v_22, vR 8 (jar h r2 (ixn ((16 : Int32) + x3)))]) (And.intro (Or.inl rfl) (And.intro (Or.inl rfl) (And.intro (Or.inl rfl) (And.intro (Or.inl rfl) (trivial))))) (And.intro (Or.inl rfl) (And.intro (Or.inl rfl) (trivial))) ?_
        exact w_X40_worked_87 hK47 w
      · refine jw_gen (ls' := _) (st' := [vR 6 (jfr h 23 r1), vR 26 (jar h (jfr h 150 r0) (ixn x3)), vR 8 (jar h r2 (ixn ((16 : Int32) + x3)))]) (jgl_rf _ _) (And.intro (Or.inl rfl) (And.intro (Or.inr ⟨_, _, _, rfl, rfl, Or.inr (Or.inr (by rw [e_23]; rfl))⟩) (jgs_rf _ _))) ?_
        refine jw_cR (st := [vR 8 (jar h r2 (ixn ((16 : Int32) + x3)))]) (sa := [vR 26 (jar h (jfr h 150 r0) (ixn x3)), vR 6 (jfr h 23 r1)]) okX32_at rfl rfl rfl rfl rfl rfl (jstp_up (sa := [vR 6 (jfr h 23 r1)]) (st := [vR 8 (jar h r2 (ixn ((16 : Int32) + x3)))]) rfl (lw_g (jtb_mem (c := 12) (i := 233) rfl) rfl) um34 okX32_at g_19 (fun _ _ => by rw [e_23]; exact ⟨rfl, rfl⟩) rfl rfl) (w.2.2.2.2.2.2.1 e_23) (fun v_22 h_20 _ _ _ w => ?_)
        refine jw_gen (ls' := [some (vR 33 r0), some (vR 3 r1), some (vR 76 r2), some (vI x3), none]) (st' := [vR 8 v_22, vR 8 (jar h r2 (ixn ((16 : Int32) + x3)))]) (And.intro (Or.inl rfl) (And.intro (Or.inl rfl) (And.intro (Or.inl rfl) (And.intro (Or.inl rfl) (trivial))))) (And.intro (Or.inl rfl) (And.intro (Or.inl rfl) (trivial))) ?_
        exact w_X40_worked_87 hK47 w
      · refine jw_gen (ls' := _) (st' := [vR 6 (jfr h 23 r1), vR 27 (jar h (jfr h 150 r0) (ixn x3)), vR 8 (jar h r2 (ixn ((16 : Int32) + x3)))]) (jgl_rf _ _) (And.intro (Or.inl rfl) (And.intro (Or.inr ⟨_, _, _, rfl, rfl, Or.inr (Or.inr (by rw [e_23]; rfl))⟩) (jgs_rf _ _))) ?_
        refine jw_cR (st := [vR 8 (jar h r2 (ixn ((16 : Int32) + x3)))]) (sa := [vR 27 (jar h (jfr h 150 r0) (ixn x3)), vR 6 (jfr h 23 r1)]) okX33_at rfl rfl rfl rfl rfl rfl (jstp_up (sa := [vR 6 (jfr h 23 r1)]) (st := [vR 8 (jar h r2 (ixn ((16 : Int32) + x3)))]) rfl (lw_g (jtb_mem (c := 12) (i := 233) rfl) rfl) um35 okX33_at g_19 (fun _ _ => by rw [e_23]; exact ⟨rfl, rfl⟩) rfl rfl) (w.2.2.2.2.2.2.2.1 e_23) (fun v_22 h_20 _ _ _ w => ?_)
        refine jw_gen (ls' := [some (vR 33 r0), some (vR 3 r1), some (vR 76 r2), some (vI x3), none]) (st' := [vR 8 v_22, vR 8 (jar h r2 (ixn ((16 : Int32) + x3)))]) (And.intro (Or.inl rfl) (And.intro (Or.inl rfl) (And.intro (Or.inl rfl) (And.intro (Or.inl rfl) (trivial))))) (And.intro (Or.inl rfl) (And.intro (Or.inl rfl) (trivial))) ?_
        exact w_X40_worked_87 hK47 w
      · refine jw_gen (ls' := _) (st' := [vR 6 (jfr h 23 r1), vR 28 (jar h (jfr h 150 r0) (ixn x3)), vR 8 (jar h r2 (ixn ((16 : Int32) + x3)))]) (jgl_rf _ _) (And.intro (Or.inl rfl) (And.intro (Or.inr ⟨_, _, _, rfl, rfl, Or.inr (Or.inr (by rw [e_23]; rfl))⟩) (jgs_rf _ _))) ?_
        refine jw_cR (st := [vR 8 (jar h r2 (ixn ((16 : Int32) + x3)))]) (sa := [vR 28 (jar h (jfr h 150 r0) (ixn x3)), vR 6 (jfr h 23 r1)]) okX34_at rfl rfl rfl rfl rfl rfl (jstp_up (sa := [vR 6 (jfr h 23 r1)]) (st := [vR 8 (jar h r2 (ixn ((16 : Int32) + x3)))]) rfl (lw_g (jtb_mem (c := 12) (i := 233) rfl) rfl) um36 okX34_at g_19 (fun _ _ => by rw [e_23]; exact ⟨rfl, rfl⟩) rfl rfl) (w.2.2.2.2.2.2.2.2.1 e_23) (fun v_22 h_20 _ _ _ w => ?_)
        refine jw_gen (ls' := [some (vR 33 r0), some (vR 3 r1), some (vR 76 r2), some (vI x3), none]) (st' := [vR 8 v_22, vR 8 (jar h r2 (ixn ((16 : Int32) + x3)))]) (And.intro (Or.inl rfl) (And.intro (Or.inl rfl) (And.intro (Or.inl rfl) (And.intro (Or.inl rfl) (trivial))))) (And.intro (Or.inl rfl) (And.intro (Or.inl rfl) (trivial))) ?_
        exact w_X40_worked_87 hK47 w
      · refine jw_gen (ls' := _) (st' := [vR 6 (jfr h 23 r1), vR 29 (jar h (jfr h 150 r0) (ixn x3)), vR 8 (jar h r2 (ixn ((16 : Int32) + x3)))]) (jgl_rf _ _) (And.intro (Or.inl rfl) (And.intro (Or.inr ⟨_, _, _, rfl, rfl, Or.inr (Or.inr (by rw [e_23]; rfl))⟩) (jgs_rf _ _))) ?_
        refine jw_cR (st := [vR 8 (jar h r2 (ixn ((16 : Int32) + x3)))]) (sa := [vR 29 (jar h (jfr h 150 r0) (ixn x3)), vR 6 (jfr h 23 r1)]) okX35_at rfl rfl rfl rfl rfl rfl (jstp_up (sa := [vR 6 (jfr h 23 r1)]) (st := [vR 8 (jar h r2 (ixn ((16 : Int32) + x3)))]) rfl (lw_g (jtb_mem (c := 12) (i := 233) rfl) rfl) um37 okX35_at g_19 (fun _ _ => by rw [e_23]; exact ⟨rfl, rfl⟩) rfl rfl) (w.2.2.2.2.2.2.2.2.2 e_23) (fun v_22 h_20 _ _ _ w => ?_)
        refine jw_gen (ls' := [some (vR 33 r0), some (vR 3 r1), some (vR 76 r2), some (vI x3), none]) (st' := [vR 8 v_22, vR 8 (jar h r2 (ixn ((16 : Int32) + x3)))]) (And.intro (Or.inl rfl) (And.intro (Or.inl rfl) (And.intro (Or.inl rfl) (And.intro (Or.inl rfl) (trivial))))) (And.intro (Or.inl rfl) (And.intro (Or.inl rfl) (trivial))) ?_
        exact w_X40_worked_87 hK47 w
def L_X40_worked_47 (D : JD) (d : Nat) (Q : JO → JH → Prop) : Nat → Nat → Nat → Nat → Int32 → JH → Prop
  | 0 => fun _ _ _ _ _ => False
  | n + 1 => fun r0 r1 r2 x3 h => W_X40_worked_47 D d Q (L_X40_worked_47 D d Q n) r0 r1 r2 x3 h
theorem l_X40_worked_47 {D : JD} {d : Nat} {Q : JO → JH → Prop} : ∀ (n : Nat) (r0 : Nat) (r1 : Nat) (r2 : Nat) (x3 : Int32) (h : JH), L_X40_worked_47 D d Q n r0 r1 r2 x3 h → JW D (d + 1) mX40_worked 47 [some (vR 33 r0), some (vR 3 r1), some (vR 76 r2), some (vI x3), none] [] h Q := by
  intro n
  induction n with
  | zero => intro _ _ _ _ _ w; exact w.elim
  | succ n ih => intro _ _ _ _ h w; exact w_X40_worked_47 ih w
def W_X40_worked_35 (D : JD) (d : Nat) (Q : JO → JH → Prop) (K11 : Nat → Nat → Nat → Int32 → JH → Prop) (r0 : Nat) (r1 : Nat) (r2 : Nat) (x3 : Int32) (q0 : Nat) (q1 : Nat) (h : JH) : Prop :=
  q0 ≠ 0 ∧ (cX14_copy D d q0 q1 h (pR D h 8 (fun v_4 h_2 => K11 r0 r1 r2 (x3 + (1 : Int32)) h_2) (jth Q)))
theorem w_X40_worked_35 {D : JD} {d : Nat} {Q : JO → JH → Prop} {K11 : Nat → Nat → Nat → Int32 → JH → Prop} {r0 : Nat} {r1 : Nat} {r2 : Nat} {x3 : Int32} {q0 : Nat} {q1 : Nat} {h : JH} (hK11 : ∀ (r0 : Nat) (r1 : Nat) (r2 : Nat) (x3 : Int32) (h : JH), K11 r0 r1 r2 x3 h → JW D (d + 1) mX40_worked 11 [some (vR 33 r0), some (vR 3 r1), some (vR 76 r2), some (vI x3), none] [] h Q) (w : W_X40_worked_35 D d Q K11 r0 r1 r2 x3 q0 q1 h) : JW D (d + 1) mX40_worked 35 [some (vR 33 r0), some (vR 3 r1), some (vR 76 r2), some (vI x3), none] [vR 8 q1, vR 8 q0] h Q := by
  unfold W_X40_worked_35 at w
  obtain ⟨g_1, w⟩ := w
  refine jw_cR (st := []) (sa := [vR 8 q0, vR 8 q1]) okX14_copy rfl rfl rfl rfl rfl rfl (jstp_virtual (sa := [vR 8 q1]) (st := []) (k := 0) rfl rfl sX14_copy okX14_copy g_1 (one8.k g_1) rfl rfl) w (fun v_4 h_2 _ _ _ w => ?_)
  refine jw_pop (pc' := 39) rfl rfl ?_
  refine jw_iinc (pc' := 42) (y := x3 + (1 : Int32)) (ls' := [some (vR 33 r0), some (vR 3 r1), some (vR 76 r2), some (vI (x3 + (1 : Int32))), none]) rfl (by decide) rfl rfl rfl ?_
  refine jw_goto (pc' := 11) rfl rfl ?_
  exact hK11 _ _ _ _ _ w
def W_X40_worked_11 (D : JD) (d : Nat) (Q : JO → JH → Prop) (K11 : Nat → Nat → Nat → Int32 → JH → Prop) (r0 : Nat) (r1 : Nat) (r2 : Nat) (x3 : Int32) (h : JH) : Prop :=
  r0 ≠ 0 ∧ (((jfi h 159 r0) ≤ x3 → ∃ n, L_X40_worked_47 D d Q n r0 r1 r2 (0 : Int32) h) ∧ (¬ (jfi h 159 r0) ≤ x3 → r2 ≠ 0 ∧ jin x3 (jln h r2) ∧ ((jfr h 156 r0) ≠ 0 ∧ jin x3 (jln h (jfr h 156 r0)) ∧ (r1 ≠ 0 ∧ ((jar h (jfr h 156 r0) (ixn x3)) ≠ 0 ∧ (v55_at D d (jar h (jfr h 156 r0) (ixn x3)) (jfr h 23 r1) h (pR D h 8 (fun v_11 h_9 => W_X40_worked_35 D d Q K11 r0 r1 r2 x3 (jar h r2 (ixn x3)) v_11 h_9) (jth Q))))))))
theorem w_X40_worked_11 {D : JD} {d : Nat} {Q : JO → JH → Prop} {K11 : Nat → Nat → Nat → Int32 → JH → Prop} {r0 : Nat} {r1 : Nat} {r2 : Nat} {x3 : Int32} {h : JH} (hK11 : ∀ (r0 : Nat) (r1 : Nat) (r2 : Nat) (x3 : Int32) (h : JH), K11 r0 r1 r2 x3 h → JW D (d + 1) mX40_worked 11 [some (vR 33 r0), some (vR 3 r1), some (vR 76 r2), some (vI x3), none] [] h Q) (w : W_X40_worked_11 D d Q K11 r0 r1 r2 x3 h) : JW D (d + 1) mX40_worked 11 [some (vR 33 r0), some (vR 3 r1), some (vR 76 r2), some (vI x3), none] [] h Q := by
  unfold W_X40_worked_11 at w
  refine jw_iload_n (pc' := 12) rfl rfl ?_
  refine jw_aload_n (pc' := 13) rfl rfl ?_
  obtain ⟨g_1, w⟩ := w
  refine jw_getI (pc' := 16) (F := 159) rfl rfl rfl rfl g_1 ?_
  refine jw_icmp_ge (tgt := 45) (pc' := 19) rfl rfl (fun c_2 => ?_) (fun c_2 => ?_)
  · replace w := w.1 c_2
    refine jw_iconst (pc' := 46) (x := (0 : Int32)) rfl rfl ?_
    refine jw_istore_n (pc' := 47) (ls' := [some (vR 33 r0), some (vR 3 r1), some (vR 76 r2), some (vI (0 : Int32)), none]) rfl (by decide) rfl ?_
    obtain ⟨n, w⟩ := w
    exact l_X40_worked_47 n _ _ _ _ _ w
  · replace w := w.2 c_2
    refine jw_aload_n (pc' := 20) rfl rfl ?_
    refine jw_iload_n (pc' := 21) rfl rfl ?_
    obtain ⟨g_3, w⟩ := w
    obtain ⟨g_4, w⟩ := w
    refine jw_aald (pc' := 22) (t' := 8) rfl rfl rfl rfl g_3 g_4.ix g_4.2 ?_
    refine jw_aload_n (pc' := 23) rfl rfl ?_
    refine jw_getR (pc' := 26) (F := 156) (t' := 158) rfl rfl rfl rfl rfl g_1 ?_
    refine jw_iload_n (pc' := 27) rfl rfl ?_
    obtain ⟨g_5, w⟩ := w
    obtain ⟨g_6, w⟩ := w
    refine jw_aald (pc' := 28) (t' := 55) rfl rfl rfl rfl g_5 g_6.ix g_6.2 ?_
    refine jw_aload_n (pc' := 29) rfl rfl ?_
    obtain ⟨g_7, w⟩ := w
    refine jw_getR (pc' := 32) (F := 23) (t' := 6) rfl rfl rfl rfl rfl g_7 ?_
    obtain ⟨g_8, w⟩ := w
    refine JW.inv (fun hI => JW.oks (fun ho => ?_))
    have hkd := und55.k hI (ho (vR 55 (jar h (jfr h 156 r0) (ixn x3))) (by simp)) g_8
    simp only [List.mem_cons, List.not_mem_nil, or_false] at hkd
    clear ho hI
    rcases hkd with e_12 | e_12 | e_12 | e_12 | e_12 | e_12 | e_12 | e_12 | e_12 | e_12
    · refine jw_gen (ls' := _) (st' := [vR 6 (jfr h 23 r1), vR 20 (jar h (jfr h 156 r0) (ixn x3)), vR 8 (jar h r2 (ixn x3))]) (jgl_rf _ _) (And.intro (Or.inl rfl) (And.intro (Or.inr ⟨_, _, _, rfl, rfl, Or.inr (Or.inr (by rw [e_12]; rfl))⟩) (jgs_rf _ _))) ?_
      refine jw_cR (st := [vR 8 (jar h r2 (ixn x3))]) (sa := [vR 20 (jar h (jfr h 156 r0) (ixn x3)), vR 6 (jfr h 23 r1)]) okX25_at rfl rfl rfl rfl rfl rfl (jstp_up (sa := [vR 6 (jfr h 23 r1)]) (st := [vR 8 (jar h r2 (ixn x3))]) rfl (lw_g (jtb_mem (c := 12) (i := 233) rfl) rfl) um28 okX25_at g_8 (fun _ _ => by rw [e_12]; exact ⟨rfl, rfl⟩) rfl rfl) (w.1 e_12) (fun v_11 h_9 _ _ _ w => ?_)
      exact w_X40_worked_35 hK11 w
    · refine jw_gen (ls' := _) (st' := [vR 6 (jfr h 23 r1), vR 21 (jar h (jfr h 156 r0) (ixn x3)), vR 8 (jar h r2 (ixn x3))]) (jgl_rf _ _) (And.intro (Or.inl rfl) (And.intro (Or.inr ⟨_, _, _, rfl, rfl, Or.inr (Or.inr (by rw [e_12]; rfl))⟩) (jgs_rf _ _))) ?_
      refine jw_cR (st := [vR 8 (jar h r2 (ixn x3))]) (sa := [vR 21 (jar h (jfr h 156 r0) (ixn x3)), vR 6 (jfr h 23 r1)]) okX27_at rfl rfl rfl rfl rfl rfl (jstp_up (sa := [vR 6 (jfr h 23 r1)]) (st := [vR 8 (jar h r2 (ixn x3))]) rfl (lw_g (jtb_mem (c := 12) (i := 233) rfl) rfl) um29 okX27_at g_8 (fun _ _ => by rw [e_12]; exact ⟨rfl, rfl⟩) rfl rfl) (w.2.1 e_12) (fun v_11 h_9 _ _ _ w => ?_)
      exact w_X40_worked_35 hK11 w
    · refine jw_gen (ls' := _) (st' := [vR 6 (jfr h 23 r1), vR 22 (jar h (jfr h 156 r0) (ixn x3)), vR 8 (jar h r2 (ixn x3))]) (jgl_rf _ _) (And.intro (Or.inl rfl) (And.intro (Or.inr ⟨_, _, _, rfl, rfl, Or.inr (Or.inr (by rw [e_12]; rfl))⟩) (jgs_rf _ _))) ?_
      refine jw_cR (st := [vR 8 (jar h r2 (ixn x3))]) (sa := [vR 22 (jar h (jfr h 156 r0) (ixn x3)), vR 6 (jfr h 23 r1)]) okX28_at rfl rfl rfl rfl rfl rfl (jstp_up (sa := [vR 6 (jfr h 23 r1)]) (st := [vR 8 (jar h r2 (ixn x3))]) rfl (lw_g (jtb_mem (c := 12) (i := 233) rfl) rfl) um30 okX28_at g_8 (fun _ _ => by rw [e_12]; exact ⟨rfl, rfl⟩) rfl rfl) (w.2.2.1 e_12) (fun v_11 h_9 _ _ _ w => ?_)
      exact w_X40_worked_35 hK11 w
    · refine jw_gen (ls' := _) (st' := [vR 6 (jfr h 23 r1), vR 23 (jar h (jfr h 156 r0) (ixn x3)), vR 8 (jar h r2 (ixn x3))]) (jgl_rf _ _) (And.intro (Or.inl rfl) (And.intro (Or.inr ⟨_, _, _, rfl, rfl, Or.inr (Or.inr (by rw [e_12]; rfl))⟩) (jgs_rf _ _))) ?_
      refine jw_cR (st := [vR 8 (jar h r2 (ixn x3))]) (sa := [vR 23 (jar h (jfr h 156 r0) (ixn x3)), vR 6 (jfr h 23 r1)]) okX29_at rfl rfl rfl rfl rfl rfl (jstp_up (sa := [vR 6 (jfr h 23 r1)]) (st := [vR 8 (jar h r2 (ixn x3))]) rfl (lw_g (jtb_mem (c := 12) (i := 233) rfl) rfl) um31 okX29_at g_8 (fun _ _ => by rw [e_12]; exact ⟨rfl, rfl⟩) rfl rfl) (w.2.2.2.1 e_12) (fun v_11 h_9 _ _ _ w => ?_)
      exact w_X40_worked_35 hK11 w
    · refine jw_gen (ls' := _) (st' := [vR 6 (jfr h 23 r1), vR 24 (jar h (jfr h 156 r0) (ixn x3)), vR 8 (jar h r2 (ixn x3))]) (jgl_rf _ _) (And.intro (Or.inl rfl) (And.intro (Or.inr ⟨_, _, _, rfl, rfl, Or.inr (Or.inr (by rw [e_12]; rfl))⟩) (jgs_rf _ _))) ?_
      refine jw_cR (st := [vR 8 (jar h r2 (ixn x3))]) (sa := [vR 24 (jar h (jfr h 156 r0) (ixn x3)), vR 6 (jfr h 23 r1)]) okX30_at rfl rfl rfl rfl rfl rfl (jstp_up (sa := [vR 6 (jfr h 23 r1)]) (st := [vR 8 (jar h r2 (ixn x3))]) rfl (lw_g (jtb_mem (c := 12) (i := 233) rfl) rfl) um32 okX30_at g_8 (fun _ _ => by rw [e_12]; exact ⟨rfl, rfl⟩) rfl rfl) (w.2.2.2.2.1 e_12) (fun v_11 h_9 _ _ _ w => ?_)
      exact w_X40_worked_35 hK11 w
    · refine jw_gen (ls' := _) (st' := [vR 6 (jfr h 23 r1), vR 25 (jar h (jfr h 156 r0) (ixn x3)), vR 8 (jar h r2 (ixn x3))]) (jgl_rf _ _) (And.intro (Or.inl rfl) (And.intro (Or.inr ⟨_, _, _, rfl, rfl, Or.inr (Or.inr (by rw [e_12]; rfl))⟩) (jgs_rf _ _))) ?_
      refine jw_cR (st := [vR 8 (jar h r2 (ixn x3))]) (sa := [vR 25 (jar h (jfr h 156 r0) (ixn x3)), vR 6 (jfr h 23 r1)]) okX31_at rfl rfl rfl rfl rfl rfl (jstp_up (sa := [vR 6 (jfr h 23 r1)]) (st := [vR 8 (jar h r2 (ixn x3))]) rfl (lw_g (jtb_mem (c := 12) (i := 233) rfl) rfl) um33 okX31_at g_8 (fun _ _ => by rw [e_12]; exact ⟨rfl, rfl⟩) rfl rfl) (w.2.2.2.2.2.1 e_12) (fun v_11 h_9 _ _ _ w => ?_)
      exact w_X40_worked_35 hK11 w
    · refine jw_gen (ls' := _) (st' := [vR 6 (jfr h 23 r1), vR 26 (jar h (jfr h 156 r0) (ixn x3)), vR 8 (jar h r2 (ixn x3))]) (jgl_rf _ _) (And.intro (Or.inl rfl) (And.intro (Or.inr ⟨_, _, _, rfl, rfl, Or.inr (Or.inr (by rw [e_12]; rfl))⟩) (jgs_rf _ _))) ?_
      refine jw_cR (st := [vR 8 (jar h r2 (ixn x3))]) (sa := [vR 26 (jar h (jfr h 156 r0) (ixn x3)), vR 6 (jfr h 23 r1)]) okX32_at rfl rfl rfl rfl rfl rfl (jstp_up (sa := [vR 6 (jfr h 23 r1)]) (st := [vR 8 (jar h r2 (ixn x3))]) rfl (lw_g (jtb_mem (c := 12) (i := 233) rfl) rfl) um34 okX32_at g_8 (fun _ _ => by rw [e_12]; exact ⟨rfl, rfl⟩) rfl rfl) (w.2.2.2.2.2.2.1 e_12) (fun v_11 h_9 _ _ _ w => ?_)
      exact w_X40_worked_35 hK11 w
    · refine jw_gen (ls' := _) (st' := [vR 6 (jfr h 23 r1), vR 27 (jar h (jfr h 156 r0) (ixn x3)), vR 8 (jar h r2 (ixn x3))]) (jgl_rf _ _) (And.intro (Or.inl rfl) (And.intro (Or.inr ⟨_, _, _, rfl, rfl, Or.inr (Or.inr (by rw [e_12]; rfl))⟩) (jgs_rf _ _))) ?_
      refine jw_cR (st := [vR 8 (jar h r2 (ixn x3))]) (sa := [vR 27 (jar h (jfr h 156 r0) (ixn x3)), vR 6 (jfr h 23 r1)]) okX33_at rfl rfl rfl rfl rfl rfl (jstp_up (sa := [vR 6 (jfr h 23 r1)]) (st := [vR 8 (jar h r2 (ixn x3))]) rfl (lw_g (jtb_mem (c := 12) (i := 233) rfl) rfl) um35 okX33_at g_8 (fun _ _ => by rw [e_12]; exact ⟨rfl, rfl⟩) rfl rfl) (w.2.2.2.2.2.2.2.1 e_12) (fun v_11 h_9 _ _ _ w => ?_)
      exact w_X40_worked_35 hK11 w
    · refine jw_gen (ls' := _) (st' := [vR 6 (jfr h 23 r1), vR 28 (jar h (jfr h 156 r0) (ixn x3)), vR 8 (jar h r2 (ixn x3))]) (jgl_rf _ _) (And.intro (Or.inl rfl) (And.intro (Or.inr ⟨_, _, _, rfl, rfl, Or.inr (Or.inr (by rw [e_12]; rfl))⟩) (jgs_rf _ _))) ?_
      refine jw_cR (st := [vR 8 (jar h r2 (ixn x3))]) (sa := [vR 28 (jar h (jfr h 156 r0) (ixn x3)), vR 6 (jfr h 23 r1)]) okX34_at rfl rfl rfl rfl rfl rfl (jstp_up (sa := [vR 6 (jfr h 23 r1)]) (st := [vR 8 (jar h r2 (ixn x3))]) rfl (lw_g (jtb_mem (c := 12) (i := 233) rfl) rfl) um36 okX34_at g_8 (fun _ _ => by rw [e_12]; exact ⟨rfl, rfl⟩) rfl rfl) (w.2.2.2.2.2.2.2.2.1 e_12) (fun v_11 h_9 _ _ _ w => ?_)
      exact w_X40_worked_35 hK11 w
    · refine jw_gen (ls' := _) (st' := [vR 6 (jfr h 23 r1), vR 29 (jar h (jfr h 156 r0) (ixn x3)), vR 8 (jar h r2 (ixn x3))]) (jgl_rf _ _) (And.intro (Or.inl rfl) (And.intro (Or.inr ⟨_, _, _, rfl, rfl, Or.inr (Or.inr (by rw [e_12]; rfl))⟩) (jgs_rf _ _))) ?_
      refine jw_cR (st := [vR 8 (jar h r2 (ixn x3))]) (sa := [vR 29 (jar h (jfr h 156 r0) (ixn x3)), vR 6 (jfr h 23 r1)]) okX35_at rfl rfl rfl rfl rfl rfl (jstp_up (sa := [vR 6 (jfr h 23 r1)]) (st := [vR 8 (jar h r2 (ixn x3))]) rfl (lw_g (jtb_mem (c := 12) (i := 233) rfl) rfl) um37 okX35_at g_8 (fun _ _ => by rw [e_12]; exact ⟨rfl, rfl⟩) rfl rfl) (w.2.2.2.2.2.2.2.2.2 e_12) (fun v_11 h_9 _ _ _ w => ?_)
      exact w_X40_worked_35 hK11 w
def L_X40_worked_11 (D : JD) (d : Nat) (Q : JO → JH → Prop) : Nat → Nat → Nat → Nat → Int32 → JH → Prop
  | 0 => fun _ _ _ _ _ => False
  | n + 1 => fun r0 r1 r2 x3 h => W_X40_worked_11 D d Q (L_X40_worked_11 D d Q n) r0 r1 r2 x3 h
theorem l_X40_worked_11 {D : JD} {d : Nat} {Q : JO → JH → Prop} : ∀ (n : Nat) (r0 : Nat) (r1 : Nat) (r2 : Nat) (x3 : Int32) (h : JH), L_X40_worked_11 D d Q n r0 r1 r2 x3 h → JW D (d + 1) mX40_worked 11 [some (vR 33 r0), some (vR 3 r1), some (vR 76 r2), some (vI x3), none] [] h Q := by
  intro n
  induction n with
  | zero => intro _ _ _ _ _ w; exact w.elim
  | succ n ih => intro _ _ _ _ h w; exact w_X40_worked_11 ih w
def W_X40_worked_0 (D : JD) (d : Nat) (Q : JO → JH → Prop) (r0 : Nat) (r1 : Nat) (h : JH) : Prop :=
  r1 ≠ 0 ∧ (cX3_worked D d r1 (jfi h 33 r1) h (pR D h 76 (fun v_4 h_2 => ∃ n, L_X40_worked_11 D d Q n r0 r1 v_4 (0 : Int32) h_2) (jth Q)))
theorem w_X40_worked_0 {D : JD} {d : Nat} {Q : JO → JH → Prop} {r0 : Nat} {r1 : Nat} {h : JH} (w : W_X40_worked_0 D d Q r0 r1 h) : JW D (d + 1) mX40_worked 0 [some (vR 33 r0), some (vR 3 r1), none, none, none] [] h Q := by
  unfold W_X40_worked_0 at w
  refine jw_aload_n (pc' := 1) rfl rfl ?_
  refine jw_aload_n (pc' := 2) rfl rfl ?_
  obtain ⟨g_1, w⟩ := w
  refine jw_getI (pc' := 5) (F := 33) rfl rfl rfl rfl g_1 ?_
  refine jw_cR (st := []) (sa := [vR 3 r1, vI (jfi h 33 r1)]) okX3_worked rfl rfl rfl rfl rfl rfl (jstp_virtual (sa := [vI (jfi h 33 r1)]) (st := []) (k := 0) rfl rfl sX3_worked okX3_worked g_1 (one3.k g_1) rfl rfl) w (fun v_4 h_2 _ _ _ w => ?_)
  refine jw_astore_n (pc' := 9) (ls' := [some (vR 33 r0), some (vR 3 r1), some (vR 76 v_4), none, none]) rfl (by decide) rfl ?_
  refine jw_iconst (pc' := 10) (x := (0 : Int32)) rfl rfl ?_
  refine jw_istore_n (pc' := 11) (ls' := [some (vR 33 r0), some (vR 3 r1), some (vR 76 v_4), some (vI (0 : Int32)), none]) rfl (by decide) rfl ?_
  obtain ⟨n, w⟩ := w
  exact l_X40_worked_11 n _ _ _ _ _ w
def T_X40_worked (D : JD) (d : Nat) (Q : JO → JH → Prop) (r0 : Nat) (r1 : Nat) (h : JH) : Prop := W_X40_worked_0 D d Q r0 r1 h
theorem t_X40_worked {D : JD} {d : Nat} {Q : JO → JH → Prop} {r0 : Nat} {r1 : Nat} {h : JH} (w : T_X40_worked D d Q r0 r1 h) : cX40_worked D (d + 1) r0 r1 h Q := by
  unfold T_X40_worked at w
  unfold cX40_worked
  exact w_X40_worked_0 w
def W_X40_distinct_80 (D : JD) (d : Nat) (Q : JO → JH → Prop) (K4 : Nat → Nat → Int32 → Int32 → JH → Prop) (r0 : Nat) (r1 : Nat) (x2 : Int32) (x3 : Int32) (h : JH) : Prop :=
  K4 r0 r1 x2 (x3 + (1 : Int32)) h
theorem w_X40_distinct_80 {D : JD} {d : Nat} {Q : JO → JH → Prop} {K4 : Nat → Nat → Int32 → Int32 → JH → Prop} {r0 : Nat} {r1 : Nat} {x2 : Int32} {x3 : Int32} {h : JH} (hK4 : ∀ (r0 : Nat) (r1 : Nat) (x2 : Int32) (x3 : Int32) (h : JH), K4 r0 r1 x2 x3 h → JW D (d + 1) mX40_distinct 4 [some (vR 33 r0), some (vR 3 r1), some (vI x2), some (vI x3), none, none] [] h Q) (w : W_X40_distinct_80 D d Q K4 r0 r1 x2 x3 h) : JW D (d + 1) mX40_distinct 80 [some (vR 33 r0), some (vR 3 r1), some (vI x2), some (vI x3), none, none] [] h Q := by
  unfold W_X40_distinct_80 at w
  refine jw_iinc (pc' := 83) (y := x3 + (1 : Int32)) (ls' := [some (vR 33 r0), some (vR 3 r1), some (vI x2), some (vI (x3 + (1 : Int32))), none, none]) rfl (by decide) rfl rfl rfl ?_
  refine jw_goto (pc' := 4) rfl rfl ?_
  exact hK4 _ _ _ _ _ w
def W_X40_distinct_62 (D : JD) (d : Nat) (Q : JO → JH → Prop) (K4 : Nat → Nat → Int32 → Int32 → JH → Prop) (r0 : Nat) (r1 : Nat) (x2 : Int32) (x3 : Int32) (x4 : Int32) (h : JH) : Prop :=
  (x4 = 0 → r1 ≠ 0 ∧ ((jfr h 32 r1) ≠ 0 ∧ jin x2 (jln h (jfr h 32 r1)) ∧ ∀ h_5 : JH, h_5 = wai h (jfr h 32 r1) (ixn x2) x3 → (W_X40_distinct_80 D d Q K4 r0 r1 (x2 + (1 : Int32)) x3 h_5))) ∧ (¬ x4 = 0 → W_X40_distinct_80 D d Q K4 r0 r1 x2 x3 h)
theorem w_X40_distinct_62 {D : JD} {d : Nat} {Q : JO → JH → Prop} {K4 : Nat → Nat → Int32 → Int32 → JH → Prop} {r0 : Nat} {r1 : Nat} {x2 : Int32} {x3 : Int32} {x4 : Int32} {h : JH} (hK4 : ∀ (r0 : Nat) (r1 : Nat) (x2 : Int32) (x3 : Int32) (h : JH), K4 r0 r1 x2 x3 h → JW D (d + 1) mX40_distinct 4 [some (vR 33 r0), some (vR 3 r1), some (vI x2), some (vI x3), none, none] [] h Q) (w : W_X40_distinct_62 D d Q K4 r0 r1 x2 x3 x4 h) : JW D (d + 1) mX40_distinct 62 [some (vR 33 r0), some (vR 3 r1), some (vI x2), some (vI x3), some (vI x4), none] [] h Q := by
  unfold W_X40_distinct_62 at w
  refine jw_iload (pc' := 64) rfl rfl ?_
  refine jw_if_eq (tgt := 70) (pc' := 67) rfl rfl (fun c_1 => ?_) (fun c_1 => ?_)
  · replace w := w.1 c_1
    refine jw_aload_n (pc' := 71) rfl rfl ?_
    obtain ⟨g_2, w⟩ := w
    refine jw_getR (pc' := 74) (F := 32) (t' := 136) rfl rfl rfl rfl rfl g_2 ?_
    refine jw_iload_n (pc' := 75) rfl rfl ?_
    refine jw_iload_n (pc' := 76) rfl rfl ?_
    obtain ⟨g_3, w⟩ := w
    obtain ⟨g_4, w⟩ := w
    refine jw_iast' (pc' := 77) rfl rfl rfl rfl rfl g_3 g_4 (fun h_5 e_6 => ?_)
    replace w := w h_5 e_6
    refine jw_iinc (pc' := 80) (y := x2 + (1 : Int32)) (ls' := [some (vR 33 r0), some (vR 3 r1), some (vI (x2 + (1 : Int32))), some (vI x3), some (vI x4), none]) rfl (by decide) rfl rfl rfl ?_
    refine jw_gen (ls' := [some (vR 33 r0), some (vR 3 r1), some (vI (x2 + (1 : Int32))), some (vI x3), none, none]) (st' := []) (And.intro (Or.inl rfl) (And.intro (Or.inl rfl) (And.intro (Or.inl rfl) (And.intro (Or.inl rfl) (trivial))))) (trivial) ?_
    exact w_X40_distinct_80 hK4 w
  · replace w := w.2 c_1
    refine jw_goto (pc' := 80) rfl rfl ?_
    refine jw_gen (ls' := [some (vR 33 r0), some (vR 3 r1), some (vI x2), some (vI x3), none, none]) (st' := []) (And.intro (Or.inl rfl) (And.intro (Or.inl rfl) (And.intro (Or.inl rfl) (And.intro (Or.inl rfl) (trivial))))) (trivial) ?_
    exact w_X40_distinct_80 hK4 w
def W_X40_distinct_18 (D : JD) (d : Nat) (Q : JO → JH → Prop) (K4 : Nat → Nat → Int32 → Int32 → JH → Prop) (K18 : Nat → Nat → Int32 → Int32 → Int32 → Int32 → JH → Prop) (r0 : Nat) (r1 : Nat) (x2 : Int32) (x3 : Int32) (x4 : Int32) (x5 : Int32) (h : JH) : Prop :=
  (x2 ≤ x5 → W_X40_distinct_62 D d Q K4 r0 r1 x2 x3 x4 h) ∧ (¬ x2 ≤ x5 → (¬ x4 = 0 → W_X40_distinct_62 D d Q K4 r0 r1 x2 x3 x4 h) ∧ (x4 = 0 → r1 ≠ 0 ∧ ((jfr h 32 r1) ≠ 0 ∧ jin x5 (jln h (jfr h 32 r1)) ∧ ((jfr h 30 r1) ≠ 0 ∧ jin (jai h (jfr h 32 r1) (ixn x5)) (jln h (jfr h 30 r1)) ∧ (jin x3 (jln h (jfr h 30 r1)) ∧ (r0 ≠ 0 ∧ (cX40_alike D d (jar h (jfr h 30 r1) (ixn (jai h (jfr h 32 r1) (ixn x5)))) (jar h (jfr h 30 r1) (ixn x3)) (jfi h 159 r0) h (pI D h (fun v_12 h_10 => K18 r0 r1 x2 x3 v_12 (x5 + (1 : Int32)) h_10) (jth Q)))))))))
theorem w_X40_distinct_18 {D : JD} {d : Nat} {Q : JO → JH → Prop} {K4 : Nat → Nat → Int32 → Int32 → JH → Prop} {K18 : Nat → Nat → Int32 → Int32 → Int32 → Int32 → JH → Prop} {r0 : Nat} {r1 : Nat} {x2 : Int32} {x3 : Int32} {x4 : Int32} {x5 : Int32} {h : JH} (hK4 : ∀ (r0 : Nat) (r1 : Nat) (x2 : Int32) (x3 : Int32) (h : JH), K4 r0 r1 x2 x3 h → JW D (d + 1) mX40_distinct 4 [some (vR 33 r0), some (vR 3 r1), some (vI x2), some (vI x3), none, none] [] h Q) (hK18 : ∀ (r0 : Nat) (r1 : Nat) (x2 : Int32) (x3 : Int32) (x4 : Int32) (x5 : Int32) (h : JH), K18 r0 r1 x2 x3 x4 x5 h → JW D (d + 1) mX40_distinct 18 [some (vR 33 r0), some (vR 3 r1), some (vI x2), some (vI x3), some (vI x4), some (vI x5)] [] h Q) (w : W_X40_distinct_18 D d Q K4 K18 r0 r1 x2 x3 x4 x5 h) : JW D (d + 1) mX40_distinct 18 [some (vR 33 r0), some (vR 3 r1), some (vI x2), some (vI x3), some (vI x4), some (vI x5)] [] h Q := by
  unfold W_X40_distinct_18 at w
  refine jw_iload (pc' := 20) rfl rfl ?_
  refine jw_iload_n (pc' := 21) rfl rfl ?_
  refine jw_icmp_ge (tgt := 62) (pc' := 24) rfl rfl (fun c_1 => ?_) (fun c_1 => ?_)
  · replace w := w.1 c_1
    refine jw_gen (ls' := [some (vR 33 r0), some (vR 3 r1), some (vI x2), some (vI x3), some (vI x4), none]) (st' := []) (And.intro (Or.inl rfl) (And.intro (Or.inl rfl) (And.intro (Or.inl rfl) (And.intro (Or.inl rfl) (And.intro (Or.inl rfl) (trivial)))))) (trivial) ?_
    exact w_X40_distinct_62 hK4 w
  · replace w := w.2 c_1
    refine jw_iload (pc' := 26) rfl rfl ?_
    refine jw_if_ne (tgt := 62) (pc' := 29) rfl rfl (fun c_2 => ?_) (fun c_2 => ?_)
    · replace w := w.1 c_2
      refine jw_gen (ls' := [some (vR 33 r0), some (vR 3 r1), some (vI x2), some (vI x3), some (vI x4), none]) (st' := []) (And.intro (Or.inl rfl) (And.intro (Or.inl rfl) (And.intro (Or.inl rfl) (And.intro (Or.inl rfl) (And.intro (Or.inl rfl) (trivial)))))) (trivial) ?_
      exact w_X40_distinct_62 hK4 w
    · replace w := w.2 c_2
      refine jw_aload_n (pc' := 30) rfl rfl ?_
      obtain ⟨g_3, w⟩ := w
      refine jw_getR (pc' := 33) (F := 30) (t' := 134) rfl rfl rfl rfl rfl g_3 ?_
      refine jw_aload_n (pc' := 34) rfl rfl ?_
      refine jw_getR (pc' := 37) (F := 32) (t' := 136) rfl rfl rfl rfl rfl g_3 ?_
      refine jw_iload (pc' := 39) rfl rfl ?_
      obtain ⟨g_4, w⟩ := w
      obtain ⟨g_5, w⟩ := w
      refine jw_iald (pc' := 40) rfl rfl rfl rfl g_4 g_5.ix g_5.2 ?_
      obtain ⟨g_6, w⟩ := w
      obtain ⟨g_7, w⟩ := w
      refine jw_aald (pc' := 41) (t' := 76) rfl rfl rfl rfl g_6 g_7.ix g_7.2 ?_
      refine jw_aload_n (pc' := 42) rfl rfl ?_
      refine jw_getR (pc' := 45) (F := 30) (t' := 134) rfl rfl rfl rfl rfl g_3 ?_
      refine jw_iload_n (pc' := 46) rfl rfl ?_
      obtain ⟨g_8, w⟩ := w
      refine jw_aald (pc' := 47) (t' := 76) rfl rfl rfl rfl g_6 g_8.ix g_8.2 ?_
      refine jw_aload_n (pc' := 48) rfl rfl ?_
      obtain ⟨g_9, w⟩ := w
      refine jw_getI (pc' := 51) (F := 159) rfl rfl rfl rfl g_9 ?_
      refine jw_cI (st := []) (sa := [vR 76 (jar h (jfr h 30 r1) (ixn (jai h (jfr h 32 r1) (ixn x5)))), vR 76 (jar h (jfr h 30 r1) (ixn x3)), vI (jfi h 159 r0)]) okX40_alike rfl rfl rfl rfl rfl rfl (jstp_static (sa := [vR 76 (jar h (jfr h 30 r1) (ixn (jai h (jfr h 32 r1) (ixn x5)))), vR 76 (jar h (jfr h 30 r1) (ixn x3)), vI (jfi h 159 r0)]) (st := []) rfl rfl sX40_alike okX40_alike rfl rfl) w (fun v_12 h_10 _ _ w => ?_)
      refine jw_istore (pc' := 56) (ls' := [some (vR 33 r0), some (vR 3 r1), some (vI x2), some (vI x3), some (vI v_12), some (vI x5)]) rfl (by decide) rfl ?_
      refine jw_iinc (pc' := 59) (y := x5 + (1 : Int32)) (ls' := [some (vR 33 r0), some (vR 3 r1), some (vI x2), some (vI x3), some (vI v_12), some (vI (x5 + (1 : Int32)))]) rfl (by decide) rfl rfl rfl ?_
      refine jw_goto (pc' := 18) rfl rfl ?_
      exact hK18 _ _ _ _ _ _ _ w
def L_X40_distinct_18 (D : JD) (d : Nat) (Q : JO → JH → Prop) (K4 : Nat → Nat → Int32 → Int32 → JH → Prop) : Nat → Nat → Nat → Int32 → Int32 → Int32 → Int32 → JH → Prop
  | 0 => fun _ _ _ _ _ _ _ => False
  | n + 1 => fun r0 r1 x2 x3 x4 x5 h => W_X40_distinct_18 D d Q K4 (L_X40_distinct_18 D d Q K4 n) r0 r1 x2 x3 x4 x5 h
theorem l_X40_distinct_18 {D : JD} {d : Nat} {Q : JO → JH → Prop} {K4 : Nat → Nat → Int32 → Int32 → JH → Prop} (hK4 : ∀ (r0 : Nat) (r1 : Nat) (x2 : Int32) (x3 : Int32) (h : JH), K4 r0 r1 x2 x3 h → JW D (d + 1) mX40_distinct 4 [some (vR 33 r0), some (vR 3 r1), some (vI x2), some (vI x3), none, none] [] h Q) : ∀ (n : Nat) (r0 : Nat) (r1 : Nat) (x2 : Int32) (x3 : Int32) (x4 : Int32) (x5 : Int32) (h : JH), L_X40_distinct_18 D d Q K4 n r0 r1 x2 x3 x4 x5 h → JW D (d + 1) mX40_distinct 18 [some (vR 33 r0), some (vR 3 r1), some (vI x2), some (vI x3), some (vI x4), some (vI x5)] [] h Q := by
  intro n
  induction n with
  | zero => intro _ _ _ _ _ _ _ w; exact w.elim
  | succ n ih => intro _ _ _ _ _ _ h w; exact w_X40_distinct_18 hK4 ih w
def W_X40_distinct_4 (D : JD) (d : Nat) (Q : JO → JH → Prop) (K4 : Nat → Nat → Int32 → Int32 → JH → Prop) (r0 : Nat) (r1 : Nat) (x2 : Int32) (x3 : Int32) (h : JH) : Prop :=
  r1 ≠ 0 ∧ (((jfi h 33 r1) ≤ x3 → ∀ h_3 : JH, h_3 = wfi h 33 r1 x2 → (Q (.inl none) h_3)) ∧ (¬ (jfi h 33 r1) ≤ x3 → ∃ n, L_X40_distinct_18 D d Q K4 n r0 r1 x2 x3 (0 : Int32) (0 : Int32) h))
theorem w_X40_distinct_4 {D : JD} {d : Nat} {Q : JO → JH → Prop} {K4 : Nat → Nat → Int32 → Int32 → JH → Prop} {r0 : Nat} {r1 : Nat} {x2 : Int32} {x3 : Int32} {h : JH} (hK4 : ∀ (r0 : Nat) (r1 : Nat) (x2 : Int32) (x3 : Int32) (h : JH), K4 r0 r1 x2 x3 h → JW D (d + 1) mX40_distinct 4 [some (vR 33 r0), some (vR 3 r1), some (vI x2), some (vI x3), none, none] [] h Q) (w : W_X40_distinct_4 D d Q K4 r0 r1 x2 x3 h) : JW D (d + 1) mX40_distinct 4 [some (vR 33 r0), some (vR 3 r1), some (vI x2), some (vI x3), none, none] [] h Q := by
  unfold W_X40_distinct_4 at w
  refine jw_iload_n (pc' := 5) rfl rfl ?_
  refine jw_aload_n (pc' := 6) rfl rfl ?_
  obtain ⟨g_1, w⟩ := w
  refine jw_getI (pc' := 9) (F := 33) rfl rfl rfl rfl g_1 ?_
  refine jw_icmp_ge (tgt := 86) (pc' := 12) rfl rfl (fun c_2 => ?_) (fun c_2 => ?_)
  · replace w := w.1 c_2
    refine jw_aload_n (pc' := 87) rfl rfl ?_
    refine jw_iload_n (pc' := 88) rfl rfl ?_
    refine jw_putI' (pc' := 91) (F := 33) rfl rfl rfl (Or.inr rfl) (Or.inl rfl) rfl (rfl) (rfl) rfl g_1 (fun h_3 e_4 => ?_)
    replace w := w h_3 e_4
    exact jw_return rfl rfl w
  · replace w := w.2 c_2
    refine jw_iconst (pc' := 13) (x := (0 : Int32)) rfl rfl ?_
    refine jw_istore (pc' := 15) (ls' := [some (vR 33 r0), some (vR 3 r1), some (vI x2), some (vI x3), some (vI (0 : Int32)), none]) rfl (by decide) rfl ?_
    refine jw_iconst (pc' := 16) (x := (0 : Int32)) rfl rfl ?_
    refine jw_istore (pc' := 18) (ls' := [some (vR 33 r0), some (vR 3 r1), some (vI x2), some (vI x3), some (vI (0 : Int32)), some (vI (0 : Int32))]) rfl (by decide) rfl ?_
    obtain ⟨n, w⟩ := w
    exact l_X40_distinct_18 hK4 n _ _ _ _ _ _ _ w
def L_X40_distinct_4 (D : JD) (d : Nat) (Q : JO → JH → Prop) : Nat → Nat → Nat → Int32 → Int32 → JH → Prop
  | 0 => fun _ _ _ _ _ => False
  | n + 1 => fun r0 r1 x2 x3 h => W_X40_distinct_4 D d Q (L_X40_distinct_4 D d Q n) r0 r1 x2 x3 h
theorem l_X40_distinct_4 {D : JD} {d : Nat} {Q : JO → JH → Prop} : ∀ (n : Nat) (r0 : Nat) (r1 : Nat) (x2 : Int32) (x3 : Int32) (h : JH), L_X40_distinct_4 D d Q n r0 r1 x2 x3 h → JW D (d + 1) mX40_distinct 4 [some (vR 33 r0), some (vR 3 r1), some (vI x2), some (vI x3), none, none] [] h Q := by
  intro n
  induction n with
  | zero => intro _ _ _ _ _ w; exact w.elim
  | succ n ih => intro _ _ _ _ h w; exact w_X40_distinct_4 ih w
def W_X40_distinct_0 (D : JD) (d : Nat) (Q : JO → JH → Prop) (r0 : Nat) (r1 : Nat) (h : JH) : Prop :=
  ∃ n, L_X40_distinct_4 D d Q n r0 r1 (0 : Int32) (0 : Int32) h
theorem w_X40_distinct_0 {D : JD} {d : Nat} {Q : JO → JH → Prop} {r0 : Nat} {r1 : Nat} {h : JH} (w : W_X40_distinct_0 D d Q r0 r1 h) : JW D (d + 1) mX40_distinct 0 [some (vR 33 r0), some (vR 3 r1), none, none, none, none] [] h Q := by
  unfold W_X40_distinct_0 at w
  refine jw_iconst (pc' := 1) (x := (0 : Int32)) rfl rfl ?_
  refine jw_istore_n (pc' := 2) (ls' := [some (vR 33 r0), some (vR 3 r1), some (vI (0 : Int32)), none, none, none]) rfl (by decide) rfl ?_
  refine jw_iconst (pc' := 3) (x := (0 : Int32)) rfl rfl ?_
  refine jw_istore_n (pc' := 4) (ls' := [some (vR 33 r0), some (vR 3 r1), some (vI (0 : Int32)), some (vI (0 : Int32)), none, none]) rfl (by decide) rfl ?_
  obtain ⟨n, w⟩ := w
  exact l_X40_distinct_4 n _ _ _ _ _ w
def T_X40_distinct (D : JD) (d : Nat) (Q : JO → JH → Prop) (r0 : Nat) (r1 : Nat) (h : JH) : Prop := W_X40_distinct_0 D d Q r0 r1 h
theorem t_X40_distinct {D : JD} {d : Nat} {Q : JO → JH → Prop} {r0 : Nat} {r1 : Nat} {h : JH} (w : T_X40_distinct D d Q r0 r1 h) : cX40_distinct D (d + 1) r0 r1 h Q := by
  unfold T_X40_distinct at w
  unfold cX40_distinct
  exact w_X40_distinct_0 w
def W_X40_sort_74 (D : JD) (d : Nat) (Q : JO → JH → Prop) (K2 : Nat → Nat → Int32 → JH → Prop) (r0 : Nat) (r1 : Nat) (x2 : Int32) (x3 : Int32) (x4 : Int32) (h : JH) : Prop :=
  r1 ≠ 0 ∧ ((jfr h 32 r1) ≠ 0 ∧ jin x4 (jln h (jfr h 32 r1)) ∧ ∀ h_4 : JH, h_4 = wai h (jfr h 32 r1) (ixn x4) x3 → (K2 r0 r1 (x2 + (1 : Int32)) h_4))
theorem w_X40_sort_74 {D : JD} {d : Nat} {Q : JO → JH → Prop} {K2 : Nat → Nat → Int32 → JH → Prop} {r0 : Nat} {r1 : Nat} {x2 : Int32} {x3 : Int32} {x4 : Int32} {h : JH} (hK2 : ∀ (r0 : Nat) (r1 : Nat) (x2 : Int32) (h : JH), K2 r0 r1 x2 h → JW D (d + 1) mX40_sort 2 [some (vR 33 r0), some (vR 3 r1), some (vI x2), none, none] [] h Q) (w : W_X40_sort_74 D d Q K2 r0 r1 x2 x3 x4 h) : JW D (d + 1) mX40_sort 74 [some (vR 33 r0), some (vR 3 r1), some (vI x2), some (vI x3), some (vI x4)] [] h Q := by
  unfold W_X40_sort_74 at w
  refine jw_aload_n (pc' := 75) rfl rfl ?_
  obtain ⟨g_1, w⟩ := w
  refine jw_getR (pc' := 78) (F := 32) (t' := 136) rfl rfl rfl rfl rfl g_1 ?_
  refine jw_iload (pc' := 80) rfl rfl ?_
  refine jw_iload_n (pc' := 81) rfl rfl ?_
  obtain ⟨g_2, w⟩ := w
  obtain ⟨g_3, w⟩ := w
  refine jw_iast' (pc' := 82) rfl rfl rfl rfl rfl g_2 g_3 (fun h_4 e_5 => ?_)
  replace w := w h_4 e_5
  refine jw_iinc (pc' := 85) (y := x2 + (1 : Int32)) (ls' := [some (vR 33 r0), some (vR 3 r1), some (vI (x2 + (1 : Int32))), some (vI x3), some (vI x4)]) rfl (by decide) rfl rfl rfl ?_
  refine jw_goto (pc' := 2) rfl rfl ?_
  refine jw_gen (ls' := [some (vR 33 r0), some (vR 3 r1), some (vI (x2 + (1 : Int32))), none, none]) (st' := []) (And.intro (Or.inl rfl) (And.intro (Or.inl rfl) (And.intro (Or.inl rfl) (trivial)))) (trivial) ?_
  exact hK2 _ _ _ _ w
def W_X40_sort_20 (D : JD) (d : Nat) (Q : JO → JH → Prop) (K2 : Nat → Nat → Int32 → JH → Prop) (K20 : Nat → Nat → Int32 → Int32 → Int32 → JH → Prop) (r0 : Nat) (r1 : Nat) (x2 : Int32) (x3 : Int32) (x4 : Int32) (h : JH) : Prop :=
  (x4 ≤ 0 → W_X40_sort_74 D d Q K2 r0 r1 x2 x3 x4 h) ∧ (¬ x4 ≤ 0 → r1 ≠ 0 ∧ ((jfr h 32 r1) ≠ 0 ∧ jin (x4 - (1 : Int32)) (jln h (jfr h 32 r1)) ∧ ((jfr h 30 r1) ≠ 0 ∧ jin (jai h (jfr h 32 r1) (ixn (x4 - (1 : Int32)))) (jln h (jfr h 30 r1)) ∧ (jin x3 (jln h (jfr h 30 r1)) ∧ (r0 ≠ 0 ∧ (cX40_compare D d r0 (jar h (jfr h 30 r1) (ixn (jai h (jfr h 32 r1) (ixn (x4 - (1 : Int32)))))) (jar h (jfr h 30 r1) (ixn x3)) h (pI D h (fun v_11 h_9 => (v_11 ≤ 0 → W_X40_sort_74 D d Q K2 r0 r1 x2 x3 x4 h_9) ∧ (¬ v_11 ≤ 0 → (jfr h_9 32 r1) ≠ 0 ∧ jin (x4 - (1 : Int32)) (jln h_9 (jfr h_9 32 r1)) ∧ (jin x4 (jln h_9 (jfr h_9 32 r1)) ∧ ∀ h_16 : JH, h_16 = wai h_9 (jfr h_9 32 r1) (ixn x4) (jai h_9 (jfr h_9 32 r1) (ixn (x4 - (1 : Int32)))) → (K20 r0 r1 x2 x3 (x4 + (-1 : Int32)) h_16)))) (jth Q))))))))
theorem w_X40_sort_20 {D : JD} {d : Nat} {Q : JO → JH → Prop} {K2 : Nat → Nat → Int32 → JH → Prop} {K20 : Nat → Nat → Int32 → Int32 → Int32 → JH → Prop} {r0 : Nat} {r1 : Nat} {x2 : Int32} {x3 : Int32} {x4 : Int32} {h : JH} (hK2 : ∀ (r0 : Nat) (r1 : Nat) (x2 : Int32) (h : JH), K2 r0 r1 x2 h → JW D (d + 1) mX40_sort 2 [some (vR 33 r0), some (vR 3 r1), some (vI x2), none, none] [] h Q) (hK20 : ∀ (r0 : Nat) (r1 : Nat) (x2 : Int32) (x3 : Int32) (x4 : Int32) (h : JH), K20 r0 r1 x2 x3 x4 h → JW D (d + 1) mX40_sort 20 [some (vR 33 r0), some (vR 3 r1), some (vI x2), some (vI x3), some (vI x4)] [] h Q) (w : W_X40_sort_20 D d Q K2 K20 r0 r1 x2 x3 x4 h) : JW D (d + 1) mX40_sort 20 [some (vR 33 r0), some (vR 3 r1), some (vI x2), some (vI x3), some (vI x4)] [] h Q := by
  unfold W_X40_sort_20 at w
  refine jw_iload (pc' := 22) rfl rfl ?_
  refine jw_if_le (tgt := 74) (pc' := 25) rfl rfl (fun c_1 => ?_) (fun c_1 => ?_)
  · replace w := w.1 c_1
    exact w_X40_sort_74 hK2 w
  · replace w := w.2 c_1
    refine jw_aload_n (pc' := 26) rfl rfl ?_
    refine jw_aload_n (pc' := 27) rfl rfl ?_
    obtain ⟨g_2, w⟩ := w
    refine jw_getR (pc' := 30) (F := 30) (t' := 134) rfl rfl rfl rfl rfl g_2 ?_
    refine jw_aload_n (pc' := 31) rfl rfl ?_
    refine jw_getR (pc' := 34) (F := 32) (t' := 136) rfl rfl rfl rfl rfl g_2 ?_
    refine jw_iload (pc' := 36) rfl rfl ?_
    refine jw_iconst (pc' := 37) (x := (1 : Int32)) rfl rfl ?_
    refine jw_isub (pc' := 38) rfl ?_
    obtain ⟨g_3, w⟩ := w
    obtain ⟨g_4, w⟩ := w
    refine jw_iald (pc' := 39) rfl rfl rfl rfl g_3 g_4.ix g_4.2 ?_
    obtain ⟨g_5, w⟩ := w
    obtain ⟨g_6, w⟩ := w
    refine jw_aald (pc' := 40) (t' := 76) rfl rfl rfl rfl g_5 g_6.ix g_6.2 ?_
    refine jw_aload_n (pc' := 41) rfl rfl ?_
    refine jw_getR (pc' := 44) (F := 30) (t' := 134) rfl rfl rfl rfl rfl g_2 ?_
    refine jw_iload_n (pc' := 45) rfl rfl ?_
    obtain ⟨g_7, w⟩ := w
    refine jw_aald (pc' := 46) (t' := 76) rfl rfl rfl rfl g_5 g_7.ix g_7.2 ?_
    obtain ⟨g_8, w⟩ := w
    refine jw_cI (st := []) (sa := [vR 33 r0, vR 76 (jar h (jfr h 30 r1) (ixn (jai h (jfr h 32 r1) (ixn (x4 - (1 : Int32)))))), vR 76 (jar h (jfr h 30 r1) (ixn x3))]) okX40_compare rfl rfl rfl rfl rfl rfl (jstp_virtual (sa := [vR 76 (jar h (jfr h 30 r1) (ixn (jai h (jfr h 32 r1) (ixn (x4 - (1 : Int32)))))), vR 76 (jar h (jfr h 30 r1) (ixn x3))]) (st := []) (k := 0) rfl rfl sX40_compare okX40_compare g_8 (one33.k g_8) rfl rfl) w (fun v_11 h_9 _ _ w => ?_)
    refine jw_if_le (tgt := 74) (pc' := 52) rfl rfl (fun c_12 => ?_) (fun c_12 => ?_)
    · replace w := w.1 c_12
      exact w_X40_sort_74 hK2 w
    · replace w := w.2 c_12
      refine jw_aload_n (pc' := 53) rfl rfl ?_
      refine jw_getR (pc' := 56) (F := 32) (t' := 136) rfl rfl rfl rfl rfl g_2 ?_
      refine jw_iload (pc' := 58) rfl rfl ?_
      refine jw_aload_n (pc' := 59) rfl rfl ?_
      refine jw_getR (pc' := 62) (F := 32) (t' := 136) rfl rfl rfl rfl rfl g_2 ?_
      refine jw_iload (pc' := 64) rfl rfl ?_
      refine jw_iconst (pc' := 65) (x := (1 : Int32)) rfl rfl ?_
      refine jw_isub (pc' := 66) rfl ?_
      obtain ⟨g_13, w⟩ := w
      obtain ⟨g_14, w⟩ := w
      refine jw_iald (pc' := 67) rfl rfl rfl rfl g_13 g_14.ix g_14.2 ?_
      obtain ⟨g_15, w⟩ := w
      refine jw_iast' (pc' := 68) rfl rfl rfl rfl rfl g_13 g_15 (fun h_16 e_17 => ?_)
      replace w := w h_16 e_17
      refine jw_iinc (pc' := 71) (y := x4 + (-1 : Int32)) (ls' := [some (vR 33 r0), some (vR 3 r1), some (vI x2), some (vI x3), some (vI (x4 + (-1 : Int32)))]) rfl (by decide) rfl rfl rfl ?_
      refine jw_goto (pc' := 20) rfl rfl ?_
      exact hK20 _ _ _ _ _ _ w
def L_X40_sort_20 (D : JD) (d : Nat) (Q : JO → JH → Prop) (K2 : Nat → Nat → Int32 → JH → Prop) : Nat → Nat → Nat → Int32 → Int32 → Int32 → JH → Prop
  | 0 => fun _ _ _ _ _ _ => False
  | n + 1 => fun r0 r1 x2 x3 x4 h => W_X40_sort_20 D d Q K2 (L_X40_sort_20 D d Q K2 n) r0 r1 x2 x3 x4 h
theorem l_X40_sort_20 {D : JD} {d : Nat} {Q : JO → JH → Prop} {K2 : Nat → Nat → Int32 → JH → Prop} (hK2 : ∀ (r0 : Nat) (r1 : Nat) (x2 : Int32) (h : JH), K2 r0 r1 x2 h → JW D (d + 1) mX40_sort 2 [some (vR 33 r0), some (vR 3 r1), some (vI x2), none, none] [] h Q) : ∀ (n : Nat) (r0 : Nat) (r1 : Nat) (x2 : Int32) (x3 : Int32) (x4 : Int32) (h : JH), L_X40_sort_20 D d Q K2 n r0 r1 x2 x3 x4 h → JW D (d + 1) mX40_sort 20 [some (vR 33 r0), some (vR 3 r1), some (vI x2), some (vI x3), some (vI x4)] [] h Q := by
  intro n
  induction n with
  | zero => intro _ _ _ _ _ _ w; exact w.elim
  | succ n ih => intro _ _ _ _ _ h w; exact w_X40_sort_20 hK2 ih w
def W_X40_sort_2 (D : JD) (d : Nat) (Q : JO → JH → Prop) (K2 : Nat → Nat → Int32 → JH → Prop) (r0 : Nat) (r1 : Nat) (x2 : Int32) (h : JH) : Prop :=
  r1 ≠ 0 ∧ (((jfi h 33 r1) ≤ x2 → Q (.inl none) h) ∧ (¬ (jfi h 33 r1) ≤ x2 → (jfr h 32 r1) ≠ 0 ∧ jin x2 (jln h (jfr h 32 r1)) ∧ (∃ n, L_X40_sort_20 D d Q K2 n r0 r1 x2 (jai h (jfr h 32 r1) (ixn x2)) x2 h)))
theorem w_X40_sort_2 {D : JD} {d : Nat} {Q : JO → JH → Prop} {K2 : Nat → Nat → Int32 → JH → Prop} {r0 : Nat} {r1 : Nat} {x2 : Int32} {h : JH} (hK2 : ∀ (r0 : Nat) (r1 : Nat) (x2 : Int32) (h : JH), K2 r0 r1 x2 h → JW D (d + 1) mX40_sort 2 [some (vR 33 r0), some (vR 3 r1), some (vI x2), none, none] [] h Q) (w : W_X40_sort_2 D d Q K2 r0 r1 x2 h) : JW D (d + 1) mX40_sort 2 [some (vR 33 r0), some (vR 3 r1), some (vI x2), none, none] [] h Q := by
  unfold W_X40_sort_2 at w
  refine jw_iload_n (pc' := 3) rfl rfl ?_
  refine jw_aload_n (pc' := 4) rfl rfl ?_
  obtain ⟨g_1, w⟩ := w
  refine jw_getI (pc' := 7) (F := 33) rfl rfl rfl rfl g_1 ?_
  refine jw_icmp_ge (tgt := 88) (pc' := 10) rfl rfl (fun c_2 => ?_) (fun c_2 => ?_)
  · replace w := w.1 c_2
    exact jw_return rfl rfl w
  · replace w := w.2 c_2
    refine jw_aload_n (pc' := 11) rfl rfl ?_
    refine jw_getR (pc' := 14) (F := 32) (t' := 136) rfl rfl rfl rfl rfl g_1 ?_
    refine jw_iload_n (pc' := 15) rfl rfl ?_
    obtain ⟨g_3, w⟩ := w
    obtain ⟨g_4, w⟩ := w
    refine jw_iald (pc' := 16) rfl rfl rfl rfl g_3 g_4.ix g_4.2 ?_
    refine jw_istore_n (pc' := 17) (ls' := [some (vR 33 r0), some (vR 3 r1), some (vI x2), some (vI (jai h (jfr h 32 r1) (ixn x2))), none]) rfl (by decide) rfl ?_
    refine jw_iload_n (pc' := 18) rfl rfl ?_
    refine jw_istore (pc' := 20) (ls' := [some (vR 33 r0), some (vR 3 r1), some (vI x2), some (vI (jai h (jfr h 32 r1) (ixn x2))), some (vI x2)]) rfl (by decide) rfl ?_
    obtain ⟨n, w⟩ := w
    exact l_X40_sort_20 hK2 n _ _ _ _ _ _ w
def L_X40_sort_2 (D : JD) (d : Nat) (Q : JO → JH → Prop) : Nat → Nat → Nat → Int32 → JH → Prop
  | 0 => fun _ _ _ _ => False
  | n + 1 => fun r0 r1 x2 h => W_X40_sort_2 D d Q (L_X40_sort_2 D d Q n) r0 r1 x2 h
theorem l_X40_sort_2 {D : JD} {d : Nat} {Q : JO → JH → Prop} : ∀ (n : Nat) (r0 : Nat) (r1 : Nat) (x2 : Int32) (h : JH), L_X40_sort_2 D d Q n r0 r1 x2 h → JW D (d + 1) mX40_sort 2 [some (vR 33 r0), some (vR 3 r1), some (vI x2), none, none] [] h Q := by
  intro n
  induction n with
  | zero => intro _ _ _ _ w; exact w.elim
  | succ n ih => intro _ _ _ h w; exact w_X40_sort_2 ih w
def W_X40_sort_0 (D : JD) (d : Nat) (Q : JO → JH → Prop) (r0 : Nat) (r1 : Nat) (h : JH) : Prop :=
  ∃ n, L_X40_sort_2 D d Q n r0 r1 (1 : Int32) h
theorem w_X40_sort_0 {D : JD} {d : Nat} {Q : JO → JH → Prop} {r0 : Nat} {r1 : Nat} {h : JH} (w : W_X40_sort_0 D d Q r0 r1 h) : JW D (d + 1) mX40_sort 0 [some (vR 33 r0), some (vR 3 r1), none, none, none] [] h Q := by
  unfold W_X40_sort_0 at w
  refine jw_iconst (pc' := 1) (x := (1 : Int32)) rfl rfl ?_
  refine jw_istore_n (pc' := 2) (ls' := [some (vR 33 r0), some (vR 3 r1), some (vI (1 : Int32)), none, none]) rfl (by decide) rfl ?_
  obtain ⟨n, w⟩ := w
  exact l_X40_sort_2 n _ _ _ _ w
def T_X40_sort (D : JD) (d : Nat) (Q : JO → JH → Prop) (r0 : Nat) (r1 : Nat) (h : JH) : Prop := W_X40_sort_0 D d Q r0 r1 h
theorem t_X40_sort {D : JD} {d : Nat} {Q : JO → JH → Prop} {r0 : Nat} {r1 : Nat} {h : JH} (w : T_X40_sort D d Q r0 r1 h) : cX40_sort D (d + 1) r0 r1 h Q := by
  unfold T_X40_sort at w
  unfold cX40_sort
  exact w_X40_sort_0 w
def W_X40_compare_103 (D : JD) (d : Nat) (Q : JO → JH → Prop) (s0 : Int32) (h : JH) : Prop :=
  Q (.inl (some (vI s0))) h
theorem w_X40_compare_103 {D : JD} {d : Nat} {Q : JO → JH → Prop} {s0 : Int32} {h : JH} (w : W_X40_compare_103 D d Q s0 h) : JW D (d + 1) mX40_compare 103 [none, none, none, none, none, none, none] [vI s0] h Q := by
  unfold W_X40_compare_103 at w
  exact jw_ireturn rfl rfl (rfl) w
def W_X40_compare_79 (D : JD) (d : Nat) (Q : JO → JH → Prop) (K2 : Nat → Nat → Nat → Int32 → JH → Prop) (r0 : Nat) (r1 : Nat) (r2 : Nat) (x3 : Int32) (s0 : Int32) (h : JH) : Prop :=
  (s0 = 0 → K2 r0 r1 r2 (x3 + (1 : Int32)) h) ∧ (¬ s0 = 0 → r0 ≠ 0 ∧ ((jfr h 151 r0) ≠ 0 ∧ jin x3 (jln h (jfr h 151 r0)) ∧ (((jai h (jfr h 151 r0) (ixn x3)) = 0 → W_X40_compare_103 D d Q s0 h) ∧ (¬ (jai h (jfr h 151 r0) (ixn x3)) = 0 → W_X40_compare_103 D d Q (-s0) h))))
theorem w_X40_compare_79 {D : JD} {d : Nat} {Q : JO → JH → Prop} {K2 : Nat → Nat → Nat → Int32 → JH → Prop} {r0 : Nat} {r1 : Nat} {r2 : Nat} {x3 : Int32} {s0 : Int32} {h : JH} (hK2 : ∀ (r0 : Nat) (r1 : Nat) (r2 : Nat) (x3 : Int32) (h : JH), K2 r0 r1 r2 x3 h → JW D (d + 1) mX40_compare 2 [some (vR 33 r0), some (vR 76 r1), some (vR 76 r2), some (vI x3), none, none, none] [] h Q) (w : W_X40_compare_79 D d Q K2 r0 r1 r2 x3 s0 h) : JW D (d + 1) mX40_compare 79 [some (vR 33 r0), some (vR 76 r1), some (vR 76 r2), some (vI x3), none, none, none] [vI s0] h Q := by
  unfold W_X40_compare_79 at w
  refine jw_istore (pc' := 81) (ls' := [some (vR 33 r0), some (vR 76 r1), some (vR 76 r2), some (vI x3), none, none, some (vI s0)]) rfl (by decide) rfl ?_
  refine jw_iload (pc' := 83) rfl rfl ?_
  refine jw_if_eq (tgt := 104) (pc' := 86) rfl rfl (fun c_1 => ?_) (fun c_1 => ?_)
  · replace w := w.1 c_1
    refine jw_iinc (pc' := 107) (y := x3 + (1 : Int32)) (ls' := [some (vR 33 r0), some (vR 76 r1), some (vR 76 r2), some (vI (x3 + (1 : Int32))), none, none, some (vI s0)]) rfl (by decide) rfl rfl rfl ?_
    refine jw_goto (pc' := 2) rfl rfl ?_
    refine jw_gen (ls' := [some (vR 33 r0), some (vR 76 r1), some (vR 76 r2), some (vI (x3 + (1 : Int32))), none, none, none]) (st' := []) (And.intro (Or.inl rfl) (And.intro (Or.inl rfl) (And.intro (Or.inl rfl) (And.intro (Or.inl rfl) (trivial))))) (trivial) ?_
    exact hK2 _ _ _ _ _ w
  · replace w := w.2 c_1
    refine jw_aload_n (pc' := 87) rfl rfl ?_
    obtain ⟨g_2, w⟩ := w
    refine jw_getR (pc' := 90) (F := 151) (t' := 156) rfl rfl rfl rfl rfl g_2 ?_
    refine jw_iload_n (pc' := 91) rfl rfl ?_
    obtain ⟨g_3, w⟩ := w
    obtain ⟨g_4, w⟩ := w
    refine jw_zald (pc' := 92) rfl rfl rfl rfl g_3 g_4.ix g_4.2 ?_
    refine jw_if_eq (tgt := 101) (pc' := 95) rfl rfl (fun c_5 => ?_) (fun c_5 => ?_)
    · replace w := w.1 c_5
      refine jw_iload (pc' := 103) rfl rfl ?_
      refine jw_gen (ls' := [none, none, none, none, none, none, none]) (st' := [vI s0]) (trivial) (And.intro (Or.inl rfl) (trivial)) ?_
      exact w_X40_compare_103 w
    · replace w := w.2 c_5
      refine jw_iload (pc' := 97) rfl rfl ?_
      refine jw_ineg (pc' := 98) rfl ?_
      refine jw_goto (pc' := 103) rfl rfl ?_
      refine jw_gen (ls' := [none, none, none, none, none, none, none]) (st' := [vI (-s0)]) (trivial) (And.intro (Or.inl rfl) (trivial)) ?_
      exact w_X40_compare_103 w
def W_X40_compare_68 (D : JD) (d : Nat) (Q : JO → JH → Prop) (K2 : Nat → Nat → Nat → Int32 → JH → Prop) (r0 : Nat) (r1 : Nat) (r2 : Nat) (x3 : Int32) (s0 : Int32) (s1 : Int32) (h : JH) : Prop :=
  W_X40_compare_79 D d Q K2 r0 r1 r2 x3 (s0 - s1) h
theorem w_X40_compare_68 {D : JD} {d : Nat} {Q : JO → JH → Prop} {K2 : Nat → Nat → Nat → Int32 → JH → Prop} {r0 : Nat} {r1 : Nat} {r2 : Nat} {x3 : Int32} {s0 : Int32} {s1 : Int32} {h : JH} (hK2 : ∀ (r0 : Nat) (r1 : Nat) (r2 : Nat) (x3 : Int32) (h : JH), K2 r0 r1 r2 x3 h → JW D (d + 1) mX40_compare 2 [some (vR 33 r0), some (vR 76 r1), some (vR 76 r2), some (vI x3), none, none, none] [] h Q) (w : W_X40_compare_68 D d Q K2 r0 r1 r2 x3 s0 s1 h) : JW D (d + 1) mX40_compare 68 [some (vR 33 r0), some (vR 76 r1), some (vR 76 r2), some (vI x3), none, none, none] [vI s1, vI s0] h Q := by
  unfold W_X40_compare_68 at w
  refine jw_isub (pc' := 69) rfl ?_
  refine jw_goto (pc' := 79) rfl rfl ?_
  exact w_X40_compare_79 hK2 w
def W_X40_compare_55 (D : JD) (d : Nat) (Q : JO → JH → Prop) (K2 : Nat → Nat → Nat → Int32 → JH → Prop) (r0 : Nat) (r1 : Nat) (r2 : Nat) (x3 : Int32) (r5 : Nat) (s0 : Int32) (h : JH) : Prop :=
  r5 ≠ 0 ∧ (cX14_isEmpty D d r5 h (pI D h (fun v_4 h_2 => (v_4 = 0 → W_X40_compare_68 D d Q K2 r0 r1 r2 x3 s0 (0 : Int32) h_2) ∧ (¬ v_4 = 0 → W_X40_compare_68 D d Q K2 r0 r1 r2 x3 s0 (1 : Int32) h_2)) (jth Q)))
theorem w_X40_compare_55 {D : JD} {d : Nat} {Q : JO → JH → Prop} {K2 : Nat → Nat → Nat → Int32 → JH → Prop} {r0 : Nat} {r1 : Nat} {r2 : Nat} {x3 : Int32} {r5 : Nat} {s0 : Int32} {h : JH} (hK2 : ∀ (r0 : Nat) (r1 : Nat) (r2 : Nat) (x3 : Int32) (h : JH), K2 r0 r1 r2 x3 h → JW D (d + 1) mX40_compare 2 [some (vR 33 r0), some (vR 76 r1), some (vR 76 r2), some (vI x3), none, none, none] [] h Q) (w : W_X40_compare_55 D d Q K2 r0 r1 r2 x3 r5 s0 h) : JW D (d + 1) mX40_compare 55 [some (vR 33 r0), some (vR 76 r1), some (vR 76 r2), some (vI x3), none, some (vR 8 r5), none] [vI s0] h Q := by
  unfold W_X40_compare_55 at w
  refine jw_aload (pc' := 57) rfl rfl ?_
  obtain ⟨g_1, w⟩ := w
  refine jw_cI (st := [vI s0]) (sa := [vR 8 r5]) okX14_isEmpty rfl rfl rfl rfl rfl rfl (jstp_virtual (sa := []) (st := [vI s0]) (k := 0) rfl rfl sX14_isEmpty okX14_isEmpty g_1 (one8.k g_1) rfl rfl) w (fun v_4 h_2 _ _ w => ?_)
  refine jw_if_eq (tgt := 67) (pc' := 63) rfl rfl (fun c_5 => ?_) (fun c_5 => ?_)
  · replace w := w.1 c_5
    refine jw_iconst (pc' := 68) (x := (0 : Int32)) rfl rfl ?_
    refine jw_gen (ls' := [some (vR 33 r0), some (vR 76 r1), some (vR 76 r2), some (vI x3), none, none, none]) (st' := [vI (0 : Int32), vI s0]) (And.intro (Or.inl rfl) (And.intro (Or.inl rfl) (And.intro (Or.inl rfl) (And.intro (Or.inl rfl) (trivial))))) (And.intro (Or.inl rfl) (And.intro (Or.inl rfl) (trivial))) ?_
    exact w_X40_compare_68 hK2 w
  · replace w := w.2 c_5
    refine jw_iconst (pc' := 64) (x := (1 : Int32)) rfl rfl ?_
    refine jw_goto (pc' := 68) rfl rfl ?_
    refine jw_gen (ls' := [some (vR 33 r0), some (vR 76 r1), some (vR 76 r2), some (vI x3), none, none, none]) (st' := [vI (1 : Int32), vI s0]) (And.intro (Or.inl rfl) (And.intro (Or.inl rfl) (And.intro (Or.inl rfl) (And.intro (Or.inl rfl) (trivial))))) (And.intro (Or.inl rfl) (And.intro (Or.inl rfl) (trivial))) ?_
    exact w_X40_compare_68 hK2 w
def W_X40_compare_42 (D : JD) (d : Nat) (Q : JO → JH → Prop) (K2 : Nat → Nat → Nat → Int32 → JH → Prop) (r0 : Nat) (r1 : Nat) (r2 : Nat) (x3 : Int32) (r4 : Nat) (r5 : Nat) (h : JH) : Prop :=
  r4 ≠ 0 ∧ (cX14_isEmpty D d r4 h (pI D h (fun v_4 h_2 => (v_4 = 0 → W_X40_compare_55 D d Q K2 r0 r1 r2 x3 r5 (0 : Int32) h_2) ∧ (¬ v_4 = 0 → W_X40_compare_55 D d Q K2 r0 r1 r2 x3 r5 (1 : Int32) h_2)) (jth Q)))
theorem w_X40_compare_42 {D : JD} {d : Nat} {Q : JO → JH → Prop} {K2 : Nat → Nat → Nat → Int32 → JH → Prop} {r0 : Nat} {r1 : Nat} {r2 : Nat} {x3 : Int32} {r4 : Nat} {r5 : Nat} {h : JH} (hK2 : ∀ (r0 : Nat) (r1 : Nat) (r2 : Nat) (x3 : Int32) (h : JH), K2 r0 r1 r2 x3 h → JW D (d + 1) mX40_compare 2 [some (vR 33 r0), some (vR 76 r1), some (vR 76 r2), some (vI x3), none, none, none] [] h Q) (w : W_X40_compare_42 D d Q K2 r0 r1 r2 x3 r4 r5 h) : JW D (d + 1) mX40_compare 42 [some (vR 33 r0), some (vR 76 r1), some (vR 76 r2), some (vI x3), some (vR 8 r4), some (vR 8 r5), none] [] h Q := by
  unfold W_X40_compare_42 at w
  refine jw_aload (pc' := 44) rfl rfl ?_
  obtain ⟨g_1, w⟩ := w
  refine jw_cI (st := []) (sa := [vR 8 r4]) okX14_isEmpty rfl rfl rfl rfl rfl rfl (jstp_virtual (sa := []) (st := []) (k := 0) rfl rfl sX14_isEmpty okX14_isEmpty g_1 (one8.k g_1) rfl rfl) w (fun v_4 h_2 _ _ w => ?_)
  refine jw_if_eq (tgt := 54) (pc' := 50) rfl rfl (fun c_5 => ?_) (fun c_5 => ?_)
  · replace w := w.1 c_5
    refine jw_iconst (pc' := 55) (x := (0 : Int32)) rfl rfl ?_
    refine jw_gen (ls' := [some (vR 33 r0), some (vR 76 r1), some (vR 76 r2), some (vI x3), none, some (vR 8 r5), none]) (st' := [vI (0 : Int32)]) (And.intro (Or.inl rfl) (And.intro (Or.inl rfl) (And.intro (Or.inl rfl) (And.intro (Or.inl rfl) (And.intro (Or.inl rfl) (trivial)))))) (And.intro (Or.inl rfl) (trivial)) ?_
    exact w_X40_compare_55 hK2 w
  · replace w := w.2 c_5
    refine jw_iconst (pc' := 51) (x := (1 : Int32)) rfl rfl ?_
    refine jw_goto (pc' := 55) rfl rfl ?_
    refine jw_gen (ls' := [some (vR 33 r0), some (vR 76 r1), some (vR 76 r2), some (vI x3), none, some (vR 8 r5), none]) (st' := [vI (1 : Int32)]) (And.intro (Or.inl rfl) (And.intro (Or.inl rfl) (And.intro (Or.inl rfl) (And.intro (Or.inl rfl) (And.intro (Or.inl rfl) (trivial)))))) (And.intro (Or.inl rfl) (trivial)) ?_
    exact w_X40_compare_55 hK2 w
def W_X40_compare_2 (D : JD) (d : Nat) (Q : JO → JH → Prop) (K2 : Nat → Nat → Nat → Int32 → JH → Prop) (r0 : Nat) (r1 : Nat) (r2 : Nat) (x3 : Int32) (h : JH) : Prop :=
  r0 ≠ 0 ∧ (((jfi h 153 r0) ≤ x3 → Q (.inl (some (vI (0 : Int32)))) h) ∧ (¬ (jfi h 153 r0) ≤ x3 → r1 ≠ 0 ∧ jin ((16 : Int32) + x3) (jln h r1) ∧ (r2 ≠ 0 ∧ jin ((16 : Int32) + x3) (jln h r2) ∧ ((jar h r1 (ixn ((16 : Int32) + x3))) ≠ 0 ∧ (cX14_isEmpty D d (jar h r1 (ixn ((16 : Int32) + x3))) h (pI D h (fun v_10 h_8 => (¬ v_10 = 0 → W_X40_compare_42 D d Q K2 r0 r1 r2 x3 (jar h r1 (ixn ((16 : Int32) + x3))) (jar h r2 (ixn ((16 : Int32) + x3))) h_8) ∧ (v_10 = 0 → (jar h r2 (ixn ((16 : Int32) + x3))) ≠ 0 ∧ (cX14_isEmpty D d (jar h r2 (ixn ((16 : Int32) + x3))) h_8 (pI D h_8 (fun v_15 h_13 => (v_15 = 0 → cX14_order D d (jar h r1 (ixn ((16 : Int32) + x3))) (jar h r2 (ixn ((16 : Int32) + x3))) h_13 (pI D h_13 (fun v_19 h_17 => W_X40_compare_79 D d Q K2 r0 r1 r2 x3 v_19 h_17) (jth Q))) ∧ (¬ v_15 = 0 → W_X40_compare_42 D d Q K2 r0 r1 r2 x3 (jar h r1 (ixn ((16 : Int32) + x3))) (jar h r2 (ixn ((16 : Int32) + x3))) h_13)) (jth Q))))) (jth Q)))))))
theorem w_X40_compare_2 {D : JD} {d : Nat} {Q : JO → JH → Prop} {K2 : Nat → Nat → Nat → Int32 → JH → Prop} {r0 : Nat} {r1 : Nat} {r2 : Nat} {x3 : Int32} {h : JH} (hK2 : ∀ (r0 : Nat) (r1 : Nat) (r2 : Nat) (x3 : Int32) (h : JH), K2 r0 r1 r2 x3 h → JW D (d + 1) mX40_compare 2 [some (vR 33 r0), some (vR 76 r1), some (vR 76 r2), some (vI x3), none, none, none] [] h Q) (w : W_X40_compare_2 D d Q K2 r0 r1 r2 x3 h) : JW D (d + 1) mX40_compare 2 [some (vR 33 r0), some (vR 76 r1), some (vR 76 r2), some (vI x3), none, none, none] [] h Q := by
  unfold W_X40_compare_2 at w
  refine jw_iload_n (pc' := 3) rfl rfl ?_
  refine jw_aload_n (pc' := 4) rfl rfl ?_
  obtain ⟨g_1, w⟩ := w
  refine jw_getI (pc' := 7) (F := 153) rfl rfl rfl rfl g_1 ?_
  refine jw_icmp_ge (tgt := 110) (pc' := 10) rfl rfl (fun c_2 => ?_) (fun c_2 => ?_)
  · replace w := w.1 c_2
    refine jw_iconst (pc' := 111) (x := (0 : Int32)) rfl rfl ?_
    exact jw_ireturn rfl rfl (rfl) w
  · replace w := w.2 c_2
    refine jw_aload_n (pc' := 11) rfl rfl ?_
    refine jw_bipush (pc' := 13) (x := (16 : Int32)) rfl rfl ?_
    refine jw_iload_n (pc' := 14) rfl rfl ?_
    refine jw_iadd (pc' := 15) rfl ?_
    obtain ⟨g_3, w⟩ := w
    obtain ⟨g_4, w⟩ := w
    refine jw_aald (pc' := 16) (t' := 8) rfl rfl rfl rfl g_3 g_4.ix g_4.2 ?_
    refine jw_astore (pc' := 18) (ls' := [some (vR 33 r0), some (vR 76 r1), some (vR 76 r2), some (vI x3), some (vR 8 (jar h r1 (ixn ((16 : Int32) + x3)))), none, none]) rfl (by decide) rfl ?_
    refine jw_aload_n (pc' := 19) rfl rfl ?_
    refine jw_bipush (pc' := 21) (x := (16 : Int32)) rfl rfl ?_
    refine jw_iload_n (pc' := 22) rfl rfl ?_
    refine jw_iadd (pc' := 23) rfl ?_
    obtain ⟨g_5, w⟩ := w
    obtain ⟨g_6, w⟩ := w
    refine jw_aald (pc' := 24) (t' := 8) rfl rfl rfl rfl g_5 g_6.ix g_6.2 ?_
    refine jw_astore (pc' := 26) (ls' := [some (vR 33 r0), some (vR 76 r1), some (vR 76 r2), some (vI x3), some (vR 8 (jar h r1 (ixn ((16 : Int32) + x3)))), some (vR 8 (jar h r2 (ixn ((16 : Int32) + x3)))), none]) rfl (by decide) rfl ?_
    refine jw_aload (pc' := 28) rfl rfl ?_
    obtain ⟨g_7, w⟩ := w
    refine jw_cI (st := []) (sa := [vR 8 (jar h r1 (ixn ((16 : Int32) + x3)))]) okX14_isEmpty rfl rfl rfl rfl rfl rfl (jstp_virtual (sa := []) (st := []) (k := 0) rfl rfl sX14_isEmpty okX14_isEmpty g_7 (one8.k g_7) rfl rfl) w (fun v_10 h_8 _ _ w => ?_)
    refine jw_if_ne (tgt := 42) (pc' := 34) rfl rfl (fun c_11 => ?_) (fun c_11 => ?_)
    · replace w := w.1 c_11
      exact w_X40_compare_42 hK2 w
    · replace w := w.2 c_11
      refine jw_aload (pc' := 36) rfl rfl ?_
      obtain ⟨g_12, w⟩ := w
      refine jw_cI (st := []) (sa := [vR 8 (jar h r2 (ixn ((16 : Int32) + x3)))]) okX14_isEmpty rfl rfl rfl rfl rfl rfl (jstp_virtual (sa := []) (st := []) (k := 0) rfl rfl sX14_isEmpty okX14_isEmpty g_12 (one8.k g_12) rfl rfl) w (fun v_15 h_13 _ _ w => ?_)
      refine jw_if_eq (tgt := 72) (pc' := 42) rfl rfl (fun c_16 => ?_) (fun c_16 => ?_)
      · replace w := w.1 c_16
        refine jw_aload (pc' := 74) rfl rfl ?_
        refine jw_aload (pc' := 76) rfl rfl ?_
        refine jw_cI (st := []) (sa := [vR 8 (jar h r1 (ixn ((16 : Int32) + x3))), vR 8 (jar h r2 (ixn ((16 : Int32) + x3)))]) okX14_order rfl rfl rfl rfl rfl rfl (jstp_virtual (sa := [vR 8 (jar h r2 (ixn ((16 : Int32) + x3)))]) (st := []) (k := 0) rfl rfl sX14_order okX14_order g_7 (one8.k g_7) rfl rfl) w (fun v_19 h_17 _ _ w => ?_)
        refine jw_gen (ls' := [some (vR 33 r0), some (vR 76 r1), some (vR 76 r2), some (vI x3), none, none, none]) (st' := [vI v_19]) (And.intro (Or.inl rfl) (And.intro (Or.inl rfl) (And.intro (Or.inl rfl) (And.intro (Or.inl rfl) (trivial))))) (And.intro (Or.inl rfl) (trivial)) ?_
        exact w_X40_compare_79 hK2 w
      · replace w := w.2 c_16
        exact w_X40_compare_42 hK2 w
def L_X40_compare_2 (D : JD) (d : Nat) (Q : JO → JH → Prop) : Nat → Nat → Nat → Nat → Int32 → JH → Prop
  | 0 => fun _ _ _ _ _ => False
  | n + 1 => fun r0 r1 r2 x3 h => W_X40_compare_2 D d Q (L_X40_compare_2 D d Q n) r0 r1 r2 x3 h
theorem l_X40_compare_2 {D : JD} {d : Nat} {Q : JO → JH → Prop} : ∀ (n : Nat) (r0 : Nat) (r1 : Nat) (r2 : Nat) (x3 : Int32) (h : JH), L_X40_compare_2 D d Q n r0 r1 r2 x3 h → JW D (d + 1) mX40_compare 2 [some (vR 33 r0), some (vR 76 r1), some (vR 76 r2), some (vI x3), none, none, none] [] h Q := by
  intro n
  induction n with
  | zero => intro _ _ _ _ _ w; exact w.elim
  | succ n ih => intro _ _ _ _ h w; exact w_X40_compare_2 ih w
def W_X40_compare_0 (D : JD) (d : Nat) (Q : JO → JH → Prop) (r0 : Nat) (r1 : Nat) (r2 : Nat) (h : JH) : Prop :=
  ∃ n, L_X40_compare_2 D d Q n r0 r1 r2 (0 : Int32) h
theorem w_X40_compare_0 {D : JD} {d : Nat} {Q : JO → JH → Prop} {r0 : Nat} {r1 : Nat} {r2 : Nat} {h : JH} (w : W_X40_compare_0 D d Q r0 r1 r2 h) : JW D (d + 1) mX40_compare 0 [some (vR 33 r0), some (vR 76 r1), some (vR 76 r2), none, none, none, none] [] h Q := by
  unfold W_X40_compare_0 at w
  refine jw_iconst (pc' := 1) (x := (0 : Int32)) rfl rfl ?_
  refine jw_istore_n (pc' := 2) (ls' := [some (vR 33 r0), some (vR 76 r1), some (vR 76 r2), some (vI (0 : Int32)), none, none, none]) rfl (by decide) rfl ?_
  obtain ⟨n, w⟩ := w
  exact l_X40_compare_2 n _ _ _ _ _ w
def T_X40_compare (D : JD) (d : Nat) (Q : JO → JH → Prop) (r0 : Nat) (r1 : Nat) (r2 : Nat) (h : JH) : Prop := W_X40_compare_0 D d Q r0 r1 r2 h
theorem t_X40_compare {D : JD} {d : Nat} {Q : JO → JH → Prop} {r0 : Nat} {r1 : Nat} {r2 : Nat} {h : JH} (w : T_X40_compare D d Q r0 r1 r2 h) : cX40_compare D (d + 1) r0 r1 r2 h Q := by
  unfold T_X40_compare at w
  unfold cX40_compare
  exact w_X40_compare_0 w
def W_X40_selects_0 (D : JD) (d : Nat) (Q : JO → JH → Prop) (h : JH) : Prop :=
  Q (.inl (some (vI (1 : Int32)))) h
theorem w_X40_selects_0 {D : JD} {d : Nat} {Q : JO → JH → Prop} {h : JH} (w : W_X40_selects_0 D d Q h) : JW D (d + 1) mX40_selects 0 [none] [] h Q := by
  unfold W_X40_selects_0 at w
  refine jw_iconst (pc' := 1) (x := (1 : Int32)) rfl rfl ?_
  exact jw_ireturn rfl rfl (rfl) w
def T_X40_selects (D : JD) (d : Nat) (Q : JO → JH → Prop) (r0 : Nat) (h : JH) : Prop := W_X40_selects_0 D d Q h
theorem t_X40_selects {D : JD} {d : Nat} {Q : JO → JH → Prop} {r0 : Nat} {h : JH} (w : T_X40_selects D d Q r0 h) : cX40_selects D (d + 1) r0 h Q := by
  unfold T_X40_selects at w
  unfold cX40_selects
  refine jw_gen (ls' := [none]) (st' := []) (trivial) (trivial) ?_
  exact w_X40_selects_0 w
def W_X41_init_0 (D : JD) (d : Nat) (Q : JO → JH → Prop) (r0 : Nat) (h : JH) : Prop :=
  r0 ≠ 0 ∧ (Q (.inl none) h)
theorem w_X41_init_0 {D : JD} {d : Nat} {Q : JO → JH → Prop} {r0 : Nat} {h : JH} (w : W_X41_init_0 D d Q r0 h) : JW D (d + 1) mX41_init 0 [some (vR 34 r0)] [] h Q := by
  unfold W_X41_init_0 at w
  refine jw_aload_n (pc' := 1) rfl rfl ?_
  obtain ⟨g_1, w⟩ := w
  refine jw_obj (pc' := 4) rfl (lw_g (jtb_mem (c := 9) (i := 161) rfl) rfl) rfl g_1 ?_
  exact jw_return rfl rfl w
def T_X41_init (D : JD) (d : Nat) (Q : JO → JH → Prop) (r0 : Nat) (h : JH) : Prop := W_X41_init_0 D d Q r0 h
theorem t_X41_init {D : JD} {d : Nat} {Q : JO → JH → Prop} {r0 : Nat} {h : JH} (w : T_X41_init D d Q r0 h) : cX41_init D (d + 1) r0 h Q := by
  unfold T_X41_init at w
  unfold cX41_init
  exact w_X41_init_0 w
def W_X42_init_0 (D : JD) (d : Nat) (Q : JO → JH → Prop) (r0 : Nat) (r1 : Nat) (h : JH) : Prop :=
  r0 ≠ 0 ∧ (cX20_init D d r0 h (pV D h (fun h_2 => ∀ h_5 : JH, h_5 = wfr h_2 165 r0 r1 → (Q (.inl none) h_5)) (jth Q)))
theorem w_X42_init_0 {D : JD} {d : Nat} {Q : JO → JH → Prop} {r0 : Nat} {r1 : Nat} {h : JH} (w : W_X42_init_0 D d Q r0 r1 h) : JW D (d + 1) mX42_init 0 [some (vR 35 r0), some (vR 64 r1)] [] h Q := by
  unfold W_X42_init_0 at w
  refine jw_aload_n (pc' := 1) rfl rfl ?_
  obtain ⟨g_1, w⟩ := w
  refine jw_cV (st := []) (sa := [vR 35 r0]) okX20_init rfl rfl rfl rfl rfl rfl (jstp_init (sa := []) (st := []) rfl rfl sX20_init okX20_init (lw_g (jtb_mem (c := 6) (i := 188) rfl) rfl) g_1 rfl rfl) w (fun h_2 _ _ w => ?_)
  refine jw_aload_n (pc' := 5) rfl rfl ?_
  refine jw_aload_n (pc' := 6) rfl rfl ?_
  refine jw_putR' (pc' := 9) (F := 165) rfl rfl rfl (Or.inr rfl) (Or.inr ⟨rfl, rfl⟩) rfl rfl rfl g_1 (fun h_5 e_6 => ?_)
  replace w := w h_5 e_6
  exact jw_return rfl rfl w
def T_X42_init (D : JD) (d : Nat) (Q : JO → JH → Prop) (r0 : Nat) (r1 : Nat) (h : JH) : Prop := W_X42_init_0 D d Q r0 r1 h
theorem t_X42_init {D : JD} {d : Nat} {Q : JO → JH → Prop} {r0 : Nat} {r1 : Nat} {h : JH} (w : T_X42_init D d Q r0 r1 h) : cX42_init D (d + 1) r0 r1 h Q := by
  unfold T_X42_init at w
  unfold cX42_init
  exact w_X42_init_0 w
def W_X42_check_0 (D : JD) (d : Nat) (Q : JO → JH → Prop) (h : JH) : Prop :=
  Q (.inl none) h
theorem w_X42_check_0 {D : JD} {d : Nat} {Q : JO → JH → Prop} {h : JH} (w : W_X42_check_0 D d Q h) : JW D (d + 1) mX42_check 0 [none, none] [] h Q := by
  unfold W_X42_check_0 at w
  exact jw_return rfl rfl w
def T_X42_check (D : JD) (d : Nat) (Q : JO → JH → Prop) (r0 : Nat) (r1 : Nat) (h : JH) : Prop := W_X42_check_0 D d Q h
theorem t_X42_check {D : JD} {d : Nat} {Q : JO → JH → Prop} {r0 : Nat} {r1 : Nat} {h : JH} (w : T_X42_check D d Q r0 r1 h) : cX42_check D (d + 1) r0 r1 h Q := by
  unfold T_X42_check at w
  unfold cX42_check
  refine jw_gen (ls' := [none, none]) (st' := []) (trivial) (trivial) ?_
  exact w_X42_check_0 w
def W_X42_work_61 (D : JD) (d : Nat) (Q : JO → JH → Prop) (r1 : Nat) (x3 : Int32) (h : JH) : Prop :=
  (x3 = (0 : Int32) → r1 ≠ 0 ∧ (cX3_begin D d r1 h (pR D h 64 (fun v_5 h_3 => Q (.inl (some (vR 64 v_5))) h_3) (jth Q)))) ∧ (x3 = (1 : Int32) → r1 ≠ 0 ∧ (cX3_commit D d r1 h (pR D h 64 (fun v_10 h_8 => Q (.inl (some (vR 64 v_10))) h_8) (jth Q)))) ∧ (¬ x3 = (0 : Int32) → ¬ x3 = (1 : Int32) → r1 ≠ 0 ∧ (cX3_rollback D d r1 h (pR D h 64 (fun v_14 h_12 => Q (.inl (some (vR 64 v_14))) h_12) (jth Q))))
theorem w_X42_work_61 {D : JD} {d : Nat} {Q : JO → JH → Prop} {r1 : Nat} {x3 : Int32} {h : JH} (w : W_X42_work_61 D d Q r1 x3 h) : JW D (d + 1) mX42_work 61 [none, some (vR 3 r1), none, some (vI x3)] [] h Q := by
  unfold W_X42_work_61 at w
  refine jw_iload_n (pc' := 62) rfl rfl ?_
  refine jw_lsw (cs := [((0 : Int32), 88), ((1 : Int32), 93)]) (dt := 98) rfl (by decide +kernel) (by decide +kernel) ?_
  by_cases c_1 : x3 = (0 : Int32)
  · rw [jsw_hit c_1]
    replace w := w.1 c_1
    refine jw_aload_n (pc' := 89) rfl rfl ?_
    obtain ⟨g_2, w⟩ := w
    refine jw_cR (st := []) (sa := [vR 3 r1]) okX3_begin rfl rfl rfl rfl rfl rfl (jstp_virtual (sa := []) (st := []) (k := 0) rfl rfl sX3_begin okX3_begin g_2 (one3.k g_2) rfl rfl) w (fun v_5 h_3 _ _ _ w => ?_)
    exact jw_areturn rfl rfl rfl rfl rfl w
  · rw [jsw_miss c_1]
    replace w := w.2
    by_cases c_6 : x3 = (1 : Int32)
    · rw [jsw_hit c_6]
      replace w := w.1 c_6
      refine jw_aload_n (pc' := 94) rfl rfl ?_
      obtain ⟨g_7, w⟩ := w
      refine jw_cR (st := []) (sa := [vR 3 r1]) okX3_commit rfl rfl rfl rfl rfl rfl (jstp_virtual (sa := []) (st := []) (k := 0) rfl rfl sX3_commit okX3_commit g_7 (one3.k g_7) rfl rfl) w (fun v_10 h_8 _ _ _ w => ?_)
      exact jw_areturn rfl rfl rfl rfl rfl w
    · rw [jsw_miss c_6]
      replace w := w.2
      rw [jsw_nil]
      replace w := w c_1 c_6
      refine jw_aload_n (pc' := 99) rfl rfl ?_
      obtain ⟨g_11, w⟩ := w
      refine jw_cR (st := []) (sa := [vR 3 r1]) okX3_rollback rfl rfl rfl rfl rfl rfl (jstp_virtual (sa := []) (st := []) (k := 0) rfl rfl sX3_rollback okX3_rollback g_11 (one3.k g_11) rfl rfl) w (fun v_14 h_12 _ _ _ w => ?_)
      exact jw_areturn rfl rfl rfl rfl rfl w
def W_X42_work_0 (D : JD) (d : Nat) (Q : JO → JH → Prop) (r0 : Nat) (r1 : Nat) (h : JH) : Prop :=
  r0 ≠ 0 ∧ ((jfr h 165 r0) ≠ 0 ∧ (cJ5_hashCode D d (jfr h 165 r0) h (pI D h (fun v_5 h_3 => (v_5 = (-1354815177 : Int32) → cJ5_equals D d (jfr h 165 r0) (jcs D 186) h_3 (pI D h_3 (fun v_9 h_7 => (v_9 = 0 → W_X42_work_61 D d Q r1 (-1 : Int32) h_7) ∧ (¬ v_9 = 0 → W_X42_work_61 D d Q r1 (1 : Int32) h_7)) (jth Q))) ∧ (v_5 = (93616297 : Int32) → cJ5_equals D d (jfr h 165 r0) (jcs D 185) h_3 (pI D h_3 (fun v_14 h_12 => (v_14 = 0 → W_X42_work_61 D d Q r1 (-1 : Int32) h_12) ∧ (¬ v_14 = 0 → W_X42_work_61 D d Q r1 (0 : Int32) h_12)) (jth Q))) ∧ (¬ v_5 = (-1354815177 : Int32) → ¬ v_5 = (93616297 : Int32) → W_X42_work_61 D d Q r1 (-1 : Int32) h_3)) (jth Q))))
theorem w_X42_work_0 {D : JD} {d : Nat} {Q : JO → JH → Prop} {r0 : Nat} {r1 : Nat} {h : JH} (w : W_X42_work_0 D d Q r0 r1 h) : JW D (d + 1) mX42_work 0 [some (vR 35 r0), some (vR 3 r1), none, none] [] h Q := by
  unfold W_X42_work_0 at w
  refine jw_aload_n (pc' := 1) rfl rfl ?_
  obtain ⟨g_1, w⟩ := w
  refine jw_getR (pc' := 4) (F := 165) (t' := 64) rfl rfl rfl rfl rfl g_1 ?_
  refine jw_astore_n (pc' := 5) (ls' := [some (vR 35 r0), some (vR 3 r1), some (vR 64 (jfr h 165 r0)), none]) rfl (by decide) rfl ?_
  refine jw_iconst (pc' := 6) (x := (-1 : Int32)) rfl rfl ?_
  refine jw_istore_n (pc' := 7) (ls' := [some (vR 35 r0), some (vR 3 r1), some (vR 64 (jfr h 165 r0)), some (vI (-1 : Int32))]) rfl (by decide) rfl ?_
  refine jw_aload_n (pc' := 8) rfl rfl ?_
  obtain ⟨g_2, w⟩ := w
  refine jw_cI (st := []) (sa := [vR 64 (jfr h 165 r0)]) okJ5_hashCode rfl rfl rfl rfl rfl rfl (jstp_virtual (sa := []) (st := []) (k := 0) rfl rfl sJ5_hashCode okJ5_hashCode g_2 (one64.k g_2) rfl rfl) w (fun v_5 h_3 _ _ w => ?_)
  refine jw_lsw (cs := [((-1354815177 : Int32), 50), ((93616297 : Int32), 36)]) (dt := 61) rfl (by decide +kernel) (by decide +kernel) ?_
  by_cases c_6 : v_5 = (-1354815177 : Int32)
  · rw [jsw_hit c_6]
    replace w := w.1 c_6
    refine jw_aload_n (pc' := 51) rfl rfl ?_
    refine jw_ldcS (pc' := 53) rfl rfl rfl rfl ?_
    refine jw_cI (st := []) (sa := [vR 64 (jfr h 165 r0), vR 51 (jcs D 186)]) okJ5_equals rfl rfl rfl rfl rfl rfl (jstp_virtual (sa := [vR 51 (jcs D 186)]) (st := []) (k := 0) rfl rfl sJ5_equals okJ5_equals g_2 (one64.k g_2) rfl rfl) w (fun v_9 h_7 _ _ w => ?_)
    refine jw_if_eq (tgt := 61) (pc' := 59) rfl rfl (fun c_10 => ?_) (fun c_10 => ?_)
    · replace w := w.1 c_10
      refine jw_gen (ls' := [none, some (vR 3 r1), none, some (vI (-1 : Int32))]) (st' := []) (And.intro (Or.inl rfl) (And.intro (Or.inl rfl) (trivial))) (trivial) ?_
      exact w_X42_work_61 w
    · replace w := w.2 c_10
      refine jw_iconst (pc' := 60) (x := (1 : Int32)) rfl rfl ?_
      refine jw_istore_n (pc' := 61) (ls' := [some (vR 35 r0), some (vR 3 r1), some (vR 64 (jfr h 165 r0)), some (vI (1 : Int32))]) rfl (by decide) rfl ?_
      refine jw_gen (ls' := [none, some (vR 3 r1), none, some (vI (1 : Int32))]) (st' := []) (And.intro (Or.inl rfl) (And.intro (Or.inl rfl) (trivial))) (trivial) ?_
      exact w_X42_work_61 w
  · rw [jsw_miss c_6]
    replace w := w.2
    by_cases c_11 : v_5 = (93616297 : Int32)
    · rw [jsw_hit c_11]
      replace w := w.1 c_11
      refine jw_aload_n (pc' := 37) rfl rfl ?_
      refine jw_ldcS (pc' := 39) rfl rfl rfl rfl ?_
      refine jw_cI (st := []) (sa := [vR 64 (jfr h 165 r0), vR 51 (jcs D 185)]) okJ5_equals rfl rfl rfl rfl rfl rfl (jstp_virtual (sa := [vR 51 (jcs D 185)]) (st := []) (k := 0) rfl rfl sJ5_equals okJ5_equals g_2 (one64.k g_2) rfl rfl) w (fun v_14 h_12 _ _ w => ?_)
      refine jw_if_eq (tgt := 61) (pc' := 45) rfl rfl (fun c_15 => ?_) (fun c_15 => ?_)
      · replace w := w.1 c_15
        refine jw_gen (ls' := [none, some (vR 3 r1), none, some (vI (-1 : Int32))]) (st' := []) (And.intro (Or.inl rfl) (And.intro (Or.inl rfl) (trivial))) (trivial) ?_
        exact w_X42_work_61 w
      · replace w := w.2 c_15
        refine jw_iconst (pc' := 46) (x := (0 : Int32)) rfl rfl ?_
        refine jw_istore_n (pc' := 47) (ls' := [some (vR 35 r0), some (vR 3 r1), some (vR 64 (jfr h 165 r0)), some (vI (0 : Int32))]) rfl (by decide) rfl ?_
        refine jw_goto (pc' := 61) rfl rfl ?_
        refine jw_gen (ls' := [none, some (vR 3 r1), none, some (vI (0 : Int32))]) (st' := []) (And.intro (Or.inl rfl) (And.intro (Or.inl rfl) (trivial))) (trivial) ?_
        exact w_X42_work_61 w
    · rw [jsw_miss c_11]
      replace w := w.2
      rw [jsw_nil]
      replace w := w c_6 c_11
      refine jw_gen (ls' := [none, some (vR 3 r1), none, some (vI (-1 : Int32))]) (st' := []) (And.intro (Or.inl rfl) (And.intro (Or.inl rfl) (trivial))) (trivial) ?_
      exact w_X42_work_61 w
def T_X42_work (D : JD) (d : Nat) (Q : JO → JH → Prop) (r0 : Nat) (r1 : Nat) (h : JH) : Prop := W_X42_work_0 D d Q r0 r1 h
theorem t_X42_work {D : JD} {d : Nat} {Q : JO → JH → Prop} {r0 : Nat} {r1 : Nat} {h : JH} (w : T_X42_work D d Q r0 r1 h) : cX42_work D (d + 1) r0 r1 h Q := by
  unfold T_X42_work at w
  unfold cX42_work
  exact w_X42_work_0 w
def W_X43_init_0 (D : JD) (d : Nat) (Q : JO → JH → Prop) (r0 : Nat) (h : JH) : Prop :=
  r0 ≠ 0 ∧ (Q (.inl none) h)
theorem w_X43_init_0 {D : JD} {d : Nat} {Q : JO → JH → Prop} {r0 : Nat} {h : JH} (w : W_X43_init_0 D d Q r0 h) : JW D (d + 1) mX43_init 0 [some (vR 36 r0)] [] h Q := by
  unfold W_X43_init_0 at w
  refine jw_aload_n (pc' := 1) rfl rfl ?_
  obtain ⟨g_1, w⟩ := w
  refine jw_obj (pc' := 4) rfl (lw_g (jtb_mem (c := 13) (i := 156) rfl) rfl) rfl g_1 ?_
  exact jw_return rfl rfl w
def T_X43_init (D : JD) (d : Nat) (Q : JO → JH → Prop) (r0 : Nat) (h : JH) : Prop := W_X43_init_0 D d Q r0 h
theorem t_X43_init {D : JD} {d : Nat} {Q : JO → JH → Prop} {r0 : Nat} {h : JH} (w : T_X43_init D d Q r0 h) : cX43_init D (d + 1) r0 h Q := by
  unfold T_X43_init at w
  unfold cX43_init
  exact w_X43_init_0 w
def W_X44_init_0 (D : JD) (d : Nat) (Q : JO → JH → Prop) (r0 : Nat) (h : JH) : Prop :=
  r0 ≠ 0 ∧ (Q (.inl none) h)
theorem w_X44_init_0 {D : JD} {d : Nat} {Q : JO → JH → Prop} {r0 : Nat} {h : JH} (w : W_X44_init_0 D d Q r0 h) : JW D (d + 1) mX44_init 0 [some (vR 37 r0)] [] h Q := by
  unfold W_X44_init_0 at w
  refine jw_aload_n (pc' := 1) rfl rfl ?_
  obtain ⟨g_1, w⟩ := w
  refine jw_obj (pc' := 4) rfl (lw_g (jtb_mem (c := 13) (i := 197) rfl) rfl) rfl g_1 ?_
  exact jw_return rfl rfl w
def T_X44_init (D : JD) (d : Nat) (Q : JO → JH → Prop) (r0 : Nat) (h : JH) : Prop := W_X44_init_0 D d Q r0 h
theorem t_X44_init {D : JD} {d : Nat} {Q : JO → JH → Prop} {r0 : Nat} {h : JH} (w : T_X44_init D d Q r0 h) : cX44_init D (d + 1) r0 h Q := by
  unfold T_X44_init at w
  unfold cX44_init
  exact w_X44_init_0 w
def W_X5_init_0 (D : JD) (d : Nat) (Q : JO → JH → Prop) (r0 : Nat) (h : JH) : Prop :=
  r0 ≠ 0 ∧ (∀ (r_2 : Nat) (h_3 : JH), r_2 = jsz h + 1 → h_3 = nwa h 140 100 → (∀ h_6 : JH, h_6 = wfr h_3 45 r0 r_2 → (Q (.inl none) h_6)))
theorem w_X5_init_0 {D : JD} {d : Nat} {Q : JO → JH → Prop} {r0 : Nat} {h : JH} (w : W_X5_init_0 D d Q r0 h) : JW D (d + 1) mX5_init 0 [some (vR 5 r0)] [] h Q := by
  unfold W_X5_init_0 at w
  refine jw_aload_n (pc' := 1) rfl rfl ?_
  obtain ⟨g_1, w⟩ := w
  refine jw_obj (pc' := 4) rfl (lw_g (jtb_mem (c := 1) (i := 125) rfl) rfl) rfl g_1 ?_
  refine jw_aload_n (pc' := 5) rfl rfl ?_
  refine jw_bipush (pc' := 7) (x := (100 : Int32)) rfl rfl ?_
  refine jw_anewA' (pc' := 10) (n := 100) (k := 140) rfl rfl rfl rfl rfl rfl rfl (jtb_mem (c := 1) (i := 127) rfl) ⟨by decide, rfl⟩ rfl (fun r_2 h_3 e_4 e_5 => ?_)
  replace w := w r_2 h_3 e_4 e_5
  refine jw_putR' (pc' := 13) (F := 45) rfl rfl rfl (Or.inr rfl) (Or.inr ⟨rfl, rfl⟩) rfl rfl rfl g_1 (fun h_6 e_7 => ?_)
  replace w := w h_6 e_7
  exact jw_return rfl rfl w
def T_X5_init (D : JD) (d : Nat) (Q : JO → JH → Prop) (r0 : Nat) (h : JH) : Prop := W_X5_init_0 D d Q r0 h
theorem t_X5_init {D : JD} {d : Nat} {Q : JO → JH → Prop} {r0 : Nat} {h : JH} (w : T_X5_init D d Q r0 h) : cX5_init D (d + 1) r0 h Q := by
  unfold T_X5_init at w
  unfold cX5_init
  exact w_X5_init_0 w
def W_X5_copy_35 (D : JD) (d : Nat) (Q : JO → JH → Prop) (K18 : Nat → Nat → Int32 → JH → Prop) (K35 : Nat → Nat → Int32 → Nat → Int32 → JH → Prop) (r0 : Nat) (r1 : Nat) (x2 : Int32) (r3 : Nat) (x4 : Int32) (h : JH) : Prop :=
  r0 ≠ 0 ∧ (((jfi h 44 r0) ≤ x4 → K18 r0 r1 (x2 + (1 : Int32)) h) ∧ (¬ (jfi h 44 r0) ≤ x4 → r3 ≠ 0 ∧ jin x4 (jln h r3) ∧ (r1 ≠ 0 ∧ ((jfr h 45 r1) ≠ 0 ∧ jin x2 (jln h (jfr h 45 r1)) ∧ ((jar h (jfr h 45 r1) (ixn x2)) ≠ 0 ∧ jin x4 (jln h (jar h (jfr h 45 r1) (ixn x2))) ∧ ((jar h r3 (ixn x4)) ≠ 0 ∧ (cX14_copy D d (jar h r3 (ixn x4)) (jar h (jar h (jfr h 45 r1) (ixn x2)) (ixn x4)) h (pR D h 8 (fun v_13 h_11 => K35 r0 r1 x2 r3 (x4 + (1 : Int32)) h_11) (jth Q)))))))))
theorem w_X5_copy_35 {D : JD} {d : Nat} {Q : JO → JH → Prop} {K18 : Nat → Nat → Int32 → JH → Prop} {K35 : Nat → Nat → Int32 → Nat → Int32 → JH → Prop} {r0 : Nat} {r1 : Nat} {x2 : Int32} {r3 : Nat} {x4 : Int32} {h : JH} (hK18 : ∀ (r0 : Nat) (r1 : Nat) (x2 : Int32) (h : JH), K18 r0 r1 x2 h → JW D (d + 1) mX5_copy 18 [some (vR 5 r0), some (vR 5 r1), some (vI x2), none, none] [] h Q) (hK35 : ∀ (r0 : Nat) (r1 : Nat) (x2 : Int32) (r3 : Nat) (x4 : Int32) (h : JH), K35 r0 r1 x2 r3 x4 h → JW D (d + 1) mX5_copy 35 [some (vR 5 r0), some (vR 5 r1), some (vI x2), some (vR 76 r3), some (vI x4)] [] h Q) (w : W_X5_copy_35 D d Q K18 K35 r0 r1 x2 r3 x4 h) : JW D (d + 1) mX5_copy 35 [some (vR 5 r0), some (vR 5 r1), some (vI x2), some (vR 76 r3), some (vI x4)] [] h Q := by
  unfold W_X5_copy_35 at w
  refine jw_iload (pc' := 37) rfl rfl ?_
  refine jw_aload_n (pc' := 38) rfl rfl ?_
  obtain ⟨g_1, w⟩ := w
  refine jw_getI (pc' := 41) (F := 44) rfl rfl rfl rfl g_1 ?_
  refine jw_icmp_ge (tgt := 67) (pc' := 44) rfl rfl (fun c_2 => ?_) (fun c_2 => ?_)
  · replace w := w.1 c_2
    refine jw_iinc (pc' := 70) (y := x2 + (1 : Int32)) (ls' := [some (vR 5 r0), some (vR 5 r1), some (vI (x2 + (1 : Int32))), some (vR 76 r3), some (vI x4)]) rfl (by decide) rfl rfl rfl ?_
    refine jw_goto (pc' := 18) rfl rfl ?_
    refine jw_gen (ls' := [some (vR 5 r0), some (vR 5 r1), some (vI (x2 + (1 : Int32))), none, none]) (st' := []) (And.intro (Or.inl rfl) (And.intro (Or.inl rfl) (And.intro (Or.inl rfl) (trivial)))) (trivial) ?_
    exact hK18 _ _ _ _ w
  · replace w := w.2 c_2
    refine jw_aload_n (pc' := 45) rfl rfl ?_
    refine jw_iload (pc' := 47) rfl rfl ?_
    obtain ⟨g_3, w⟩ := w
    obtain ⟨g_4, w⟩ := w
    refine jw_aald (pc' := 48) (t' := 8) rfl rfl rfl rfl g_3 g_4.ix g_4.2 ?_
    refine jw_aload_n (pc' := 49) rfl rfl ?_
    obtain ⟨g_5, w⟩ := w
    refine jw_getR (pc' := 52) (F := 45) (t' := 140) rfl rfl rfl rfl rfl g_5 ?_
    refine jw_iload_n (pc' := 53) rfl rfl ?_
    obtain ⟨g_6, w⟩ := w
    obtain ⟨g_7, w⟩ := w
    refine jw_aald (pc' := 54) (t' := 76) rfl rfl rfl rfl g_6 g_7.ix g_7.2 ?_
    refine jw_iload (pc' := 56) rfl rfl ?_
    obtain ⟨g_8, w⟩ := w
    obtain ⟨g_9, w⟩ := w
    refine jw_aald (pc' := 57) (t' := 8) rfl rfl rfl rfl g_8 g_9.ix g_9.2 ?_
    obtain ⟨g_10, w⟩ := w
    refine jw_cR (st := []) (sa := [vR 8 (jar h r3 (ixn x4)), vR 8 (jar h (jar h (jfr h 45 r1) (ixn x2)) (ixn x4))]) okX14_copy rfl rfl rfl rfl rfl rfl (jstp_virtual (sa := [vR 8 (jar h (jar h (jfr h 45 r1) (ixn x2)) (ixn x4))]) (st := []) (k := 0) rfl rfl sX14_copy okX14_copy g_10 (one8.k g_10) rfl rfl) w (fun v_13 h_11 _ _ _ w => ?_)
    refine jw_pop (pc' := 61) rfl rfl ?_
    refine jw_iinc (pc' := 64) (y := x4 + (1 : Int32)) (ls' := [some (vR 5 r0), some (vR 5 r1), some (vI x2), some (vR 76 r3), some (vI (x4 + (1 : Int32)))]) rfl (by decide) rfl rfl rfl ?_
    refine jw_goto (pc' := 35) rfl rfl ?_
    exact hK35 _ _ _ _ _ _ w
def L_X5_copy_35 (D : JD) (d : Nat) (Q : JO → JH → Prop) (K18 : Nat → Nat → Int32 → JH → Prop) : Nat → Nat → Nat → Int32 → Nat → Int32 → JH → Prop
  | 0 => fun _ _ _ _ _ _ => False
  | n + 1 => fun r0 r1 x2 r3 x4 h => W_X5_copy_35 D d Q K18 (L_X5_copy_35 D d Q K18 n) r0 r1 x2 r3 x4 h
theorem l_X5_copy_35 {D : JD} {d : Nat} {Q : JO → JH → Prop} {K18 : Nat → Nat → Int32 → JH → Prop} (hK18 : ∀ (r0 : Nat) (r1 : Nat) (x2 : Int32) (h : JH), K18 r0 r1 x2 h → JW D (d + 1) mX5_copy 18 [some (vR 5 r0), some (vR 5 r1), some (vI x2), none, none] [] h Q) : ∀ (n : Nat) (r0 : Nat) (r1 : Nat) (x2 : Int32) (r3 : Nat) (x4 : Int32) (h : JH), L_X5_copy_35 D d Q K18 n r0 r1 x2 r3 x4 h → JW D (d + 1) mX5_copy 35 [some (vR 5 r0), some (vR 5 r1), some (vI x2), some (vR 76 r3), some (vI x4)] [] h Q := by
  intro n
  induction n with
  | zero => intro _ _ _ _ _ _ w; exact w.elim
  | succ n ih => intro _ _ _ _ _ h w; exact w_X5_copy_35 hK18 ih w
def W_X5_copy_18 (D : JD) (d : Nat) (Q : JO → JH → Prop) (K18 : Nat → Nat → Int32 → JH → Prop) (r0 : Nat) (r1 : Nat) (x2 : Int32) (h : JH) : Prop :=
  r1 ≠ 0 ∧ (((jfi h 46 r1) ≤ x2 → r0 ≠ 0 ∧ ∀ h_4 : JH, h_4 = wfi h 46 r0 (jfi h 46 r1) → (Q (.inl none) h_4)) ∧ (¬ (jfi h 46 r1) ≤ x2 → r0 ≠ 0 ∧ (cX5_row D d r0 x2 h (pR D h 76 (fun v_9 h_7 => ∃ n, L_X5_copy_35 D d Q K18 n r0 r1 x2 v_9 (0 : Int32) h_7) (jth Q)))))
theorem w_X5_copy_18 {D : JD} {d : Nat} {Q : JO → JH → Prop} {K18 : Nat → Nat → Int32 → JH → Prop} {r0 : Nat} {r1 : Nat} {x2 : Int32} {h : JH} (hK18 : ∀ (r0 : Nat) (r1 : Nat) (x2 : Int32) (h : JH), K18 r0 r1 x2 h → JW D (d + 1) mX5_copy 18 [some (vR 5 r0), some (vR 5 r1), some (vI x2), none, none] [] h Q) (w : W_X5_copy_18 D d Q K18 r0 r1 x2 h) : JW D (d + 1) mX5_copy 18 [some (vR 5 r0), some (vR 5 r1), some (vI x2), none, none] [] h Q := by
  unfold W_X5_copy_18 at w
  refine jw_iload_n (pc' := 19) rfl rfl ?_
  refine jw_aload_n (pc' := 20) rfl rfl ?_
  obtain ⟨g_1, w⟩ := w
  refine jw_getI (pc' := 23) (F := 46) rfl rfl rfl rfl g_1 ?_
  refine jw_icmp_ge (tgt := 73) (pc' := 26) rfl rfl (fun c_2 => ?_) (fun c_2 => ?_)
  · replace w := w.1 c_2
    refine jw_aload_n (pc' := 74) rfl rfl ?_
    refine jw_aload_n (pc' := 75) rfl rfl ?_
    refine jw_getI (pc' := 78) (F := 46) rfl rfl rfl rfl g_1 ?_
    obtain ⟨g_3, w⟩ := w
    refine jw_putI' (pc' := 81) (F := 46) rfl rfl rfl (Or.inr rfl) (Or.inl rfl) rfl (rfl) (rfl) rfl g_3 (fun h_4 e_5 => ?_)
    replace w := w h_4 e_5
    exact jw_return rfl rfl w
  · replace w := w.2 c_2
    refine jw_aload_n (pc' := 27) rfl rfl ?_
    refine jw_iload_n (pc' := 28) rfl rfl ?_
    obtain ⟨g_6, w⟩ := w
    refine jw_cR (st := []) (sa := [vR 5 r0, vI x2]) okX5_row rfl rfl rfl rfl rfl rfl (jstp_virtual (sa := [vI x2]) (st := []) (k := 0) rfl rfl sX5_row okX5_row g_6 (one5.k g_6) rfl rfl) w (fun v_9 h_7 _ _ _ w => ?_)
    refine jw_astore_n (pc' := 32) (ls' := [some (vR 5 r0), some (vR 5 r1), some (vI x2), some (vR 76 v_9), none]) rfl (by decide) rfl ?_
    refine jw_iconst (pc' := 33) (x := (0 : Int32)) rfl rfl ?_
    refine jw_istore (pc' := 35) (ls' := [some (vR 5 r0), some (vR 5 r1), some (vI x2), some (vR 76 v_9), some (vI (0 : Int32))]) rfl (by decide) rfl ?_
    obtain ⟨n, w⟩ := w
    exact l_X5_copy_35 hK18 n _ _ _ _ _ _ w
def L_X5_copy_18 (D : JD) (d : Nat) (Q : JO → JH → Prop) : Nat → Nat → Nat → Int32 → JH → Prop
  | 0 => fun _ _ _ _ => False
  | n + 1 => fun r0 r1 x2 h => W_X5_copy_18 D d Q (L_X5_copy_18 D d Q n) r0 r1 x2 h
theorem l_X5_copy_18 {D : JD} {d : Nat} {Q : JO → JH → Prop} : ∀ (n : Nat) (r0 : Nat) (r1 : Nat) (x2 : Int32) (h : JH), L_X5_copy_18 D d Q n r0 r1 x2 h → JW D (d + 1) mX5_copy 18 [some (vR 5 r0), some (vR 5 r1), some (vI x2), none, none] [] h Q := by
  intro n
  induction n with
  | zero => intro _ _ _ _ w; exact w.elim
  | succ n ih => intro _ _ _ h w; exact w_X5_copy_18 ih w
def W_X5_copy_0 (D : JD) (d : Nat) (Q : JO → JH → Prop) (r0 : Nat) (r1 : Nat) (h : JH) : Prop :=
  r1 ≠ 0 ∧ (r0 ≠ 0 ∧ (cX5_define D d r0 (jfr h 42 r1) (jfr h 43 r1) (jfi h 44 r1) h (pV D h (fun h_3 => ∃ n, L_X5_copy_18 D d Q n r0 r1 (0 : Int32) h_3) (jth Q))))
theorem w_X5_copy_0 {D : JD} {d : Nat} {Q : JO → JH → Prop} {r0 : Nat} {r1 : Nat} {h : JH} (w : W_X5_copy_0 D d Q r0 r1 h) : JW D (d + 1) mX5_copy 0 [some (vR 5 r0), some (vR 5 r1), none, none, none] [] h Q := by
  unfold W_X5_copy_0 at w
  refine jw_aload_n (pc' := 1) rfl rfl ?_
  refine jw_aload_n (pc' := 2) rfl rfl ?_
  obtain ⟨g_1, w⟩ := w
  refine jw_getR (pc' := 5) (F := 42) (t' := 64) rfl rfl rfl rfl rfl g_1 ?_
  refine jw_aload_n (pc' := 6) rfl rfl ?_
  refine jw_getR (pc' := 9) (F := 43) (t' := 82) rfl rfl rfl rfl rfl g_1 ?_
  refine jw_aload_n (pc' := 10) rfl rfl ?_
  refine jw_getI (pc' := 13) (F := 44) rfl rfl rfl rfl g_1 ?_
  obtain ⟨g_2, w⟩ := w
  refine jw_cV (st := []) (sa := [vR 5 r0, vR 64 (jfr h 42 r1), vR 82 (jfr h 43 r1), vI (jfi h 44 r1)]) okX5_define rfl rfl rfl rfl rfl rfl (jstp_virtual (sa := [vR 64 (jfr h 42 r1), vR 82 (jfr h 43 r1), vI (jfi h 44 r1)]) (st := []) (k := 0) rfl rfl sX5_define okX5_define g_2 (one5.k g_2) rfl rfl) w (fun h_3 _ _ w => ?_)
  refine jw_iconst (pc' := 17) (x := (0 : Int32)) rfl rfl ?_
  refine jw_istore_n (pc' := 18) (ls' := [some (vR 5 r0), some (vR 5 r1), some (vI (0 : Int32)), none, none]) rfl (by decide) rfl ?_
  obtain ⟨n, w⟩ := w
  exact l_X5_copy_18 n _ _ _ _ w
def T_X5_copy (D : JD) (d : Nat) (Q : JO → JH → Prop) (r0 : Nat) (r1 : Nat) (h : JH) : Prop := W_X5_copy_0 D d Q r0 r1 h
theorem t_X5_copy {D : JD} {d : Nat} {Q : JO → JH → Prop} {r0 : Nat} {r1 : Nat} {h : JH} (w : T_X5_copy D d Q r0 r1 h) : cX5_copy D (d + 1) r0 r1 h Q := by
  unfold T_X5_copy at w
  unfold cX5_copy
  exact w_X5_copy_0 w
def W_X5_define_0 (D : JD) (d : Nat) (Q : JO → JH → Prop) (r0 : Nat) (r1 : Nat) (r2 : Nat) (x3 : Int32) (h : JH) : Prop :=
  r0 ≠ 0 ∧ ∀ h_2 : JH, h_2 = wfr h 42 r0 r1 → (∀ h_4 : JH, h_4 = wfr h_2 43 r0 r2 → (∀ h_6 : JH, h_6 = wfi h_4 44 r0 x3 → (∀ h_8 : JH, h_8 = wfi h_6 46 r0 (0 : Int32) → (Q (.inl none) h_8))))
theorem w_X5_define_0 {D : JD} {d : Nat} {Q : JO → JH → Prop} {r0 : Nat} {r1 : Nat} {r2 : Nat} {x3 : Int32} {h : JH} (w : W_X5_define_0 D d Q r0 r1 r2 x3 h) : JW D (d + 1) mX5_define 0 [some (vR 5 r0), some (vR 64 r1), some (vR 82 r2), some (vI x3)] [] h Q := by
  unfold W_X5_define_0 at w
  refine jw_aload_n (pc' := 1) rfl rfl ?_
  refine jw_aload_n (pc' := 2) rfl rfl ?_
  obtain ⟨g_1, w⟩ := w
  refine jw_putR' (pc' := 5) (F := 42) rfl rfl rfl (Or.inr rfl) (Or.inl rfl) rfl rfl rfl g_1 (fun h_2 e_3 => ?_)
  replace w := w h_2 e_3
  refine jw_aload_n (pc' := 6) rfl rfl ?_
  refine jw_aload_n (pc' := 7) rfl rfl ?_
  refine jw_putR' (pc' := 10) (F := 43) rfl rfl rfl (Or.inr rfl) (Or.inl rfl) rfl rfl rfl g_1 (fun h_4 e_5 => ?_)
  replace w := w h_4 e_5
  refine jw_aload_n (pc' := 11) rfl rfl ?_
  refine jw_iload_n (pc' := 12) rfl rfl ?_
  refine jw_putI' (pc' := 15) (F := 44) rfl rfl rfl (Or.inr rfl) (Or.inl rfl) rfl (rfl) (rfl) rfl g_1 (fun h_6 e_7 => ?_)
  replace w := w h_6 e_7
  refine jw_aload_n (pc' := 16) rfl rfl ?_
  refine jw_iconst (pc' := 17) (x := (0 : Int32)) rfl rfl ?_
  refine jw_putI' (pc' := 20) (F := 46) rfl rfl rfl (Or.inr rfl) (Or.inl rfl) rfl (rfl) (rfl) rfl g_1 (fun h_8 e_9 => ?_)
  replace w := w h_8 e_9
  exact jw_return rfl rfl w
def T_X5_define (D : JD) (d : Nat) (Q : JO → JH → Prop) (r0 : Nat) (r1 : Nat) (r2 : Nat) (x3 : Int32) (h : JH) : Prop := W_X5_define_0 D d Q r0 r1 r2 x3 h
theorem t_X5_define {D : JD} {d : Nat} {Q : JO → JH → Prop} {r0 : Nat} {r1 : Nat} {r2 : Nat} {x3 : Int32} {h : JH} (w : T_X5_define D d Q r0 r1 r2 x3 h) : cX5_define D (d + 1) r0 r1 r2 x3 h Q := by
  unfold T_X5_define at w
  unfold cX5_define
  exact w_X5_define_0 w
def W_X5_row_49 (D : JD) (d : Nat) (Q : JO → JH → Prop) (r0 : Nat) (x1 : Int32) (h : JH) : Prop :=
  r0 ≠ 0 ∧ ((jfr h 45 r0) ≠ 0 ∧ jin x1 (jln h (jfr h 45 r0)) ∧ (Q (.inl (some (vR 76 (jar h (jfr h 45 r0) (ixn x1))))) h))
theorem w_X5_row_49 {D : JD} {d : Nat} {Q : JO → JH → Prop} {r0 : Nat} {x1 : Int32} {h : JH} (w : W_X5_row_49 D d Q r0 x1 h) : JW D (d + 1) mX5_row 49 [some (vR 5 r0), some (vI x1), none] [] h Q := by
  unfold W_X5_row_49 at w
  refine jw_aload_n (pc' := 50) rfl rfl ?_
  obtain ⟨g_1, w⟩ := w
  refine jw_getR (pc' := 53) (F := 45) (t' := 140) rfl rfl rfl rfl rfl g_1 ?_
  refine jw_iload_n (pc' := 54) rfl rfl ?_
  obtain ⟨g_2, w⟩ := w
  obtain ⟨g_3, w⟩ := w
  refine jw_aald (pc' := 55) (t' := 76) rfl rfl rfl rfl g_2 g_3.ix g_3.2 ?_
  exact jw_areturn rfl rfl rfl rfl rfl w
def W_X5_row_22 (D : JD) (d : Nat) (Q : JO → JH → Prop) (K22 : Nat → Int32 → Int32 → JH → Prop) (r0 : Nat) (x1 : Int32) (x2 : Int32) (h : JH) : Prop :=
  ((10 : Int32) ≤ x2 → W_X5_row_49 D d Q r0 x1 h) ∧ (¬ (10 : Int32) ≤ x2 → r0 ≠ 0 ∧ ((jfr h 45 r0) ≠ 0 ∧ jin x1 (jln h (jfr h 45 r0)) ∧ (∀ (r_5 : Nat) (h_6 : JH), r_5 = jsz h + 1 → h_6 = nwo h 96 5 → (cX14_init D d r_5 h_6 (pV D h_6 (fun h_9 => (jar h (jfr h 45 r0) (ixn x1)) ≠ 0 ∧ jin x2 (jln h_9 (jar h (jfr h 45 r0) (ixn x1))) ∧ ∀ h_14 : JH, h_14 = war h_9 (jar h (jfr h 45 r0) (ixn x1)) (ixn x2) r_5 → (K22 r0 x1 (x2 + (1 : Int32)) h_14)) (jth Q))))))
theorem w_X5_row_22 {D : JD} {d : Nat} {Q : JO → JH → Prop} {K22 : Nat → Int32 → Int32 → JH → Prop} {r0 : Nat} {x1 : Int32} {x2 : Int32} {h : JH} (hK22 : ∀ (r0 : Nat) (x1 : Int32) (x2 : Int32) (h : JH), K22 r0 x1 x2 h → JW D (d + 1) mX5_row 22 [some (vR 5 r0), some (vI x1), some (vI x2)] [] h Q) (w : W_X5_row_22 D d Q K22 r0 x1 x2 h) : JW D (d + 1) mX5_row 22 [some (vR 5 r0), some (vI x1), some (vI x2)] [] h Q := by
  unfold W_X5_row_22 at w
  refine jw_iload_n (pc' := 23) rfl rfl ?_
  refine jw_bipush (pc' := 25) (x := (10 : Int32)) rfl rfl ?_
  refine jw_icmp_ge (tgt := 49) (pc' := 28) rfl rfl (fun c_1 => ?_) (fun c_1 => ?_)
  · replace w := w.1 c_1
    refine jw_gen (ls' := [some (vR 5 r0), some (vI x1), none]) (st' := []) (And.intro (Or.inl rfl) (And.intro (Or.inl rfl) (trivial))) (trivial) ?_
    exact w_X5_row_49 w
  · replace w := w.2 c_1
    refine jw_aload_n (pc' := 29) rfl rfl ?_
    obtain ⟨g_2, w⟩ := w
    refine jw_getR (pc' := 32) (F := 45) (t' := 140) rfl rfl rfl rfl rfl g_2 ?_
    refine jw_iload_n (pc' := 33) rfl rfl ?_
    obtain ⟨g_3, w⟩ := w
    obtain ⟨g_4, w⟩ := w
    refine jw_aald (pc' := 34) (t' := 76) rfl rfl rfl rfl g_3 g_4.ix g_4.2 ?_
    refine jw_iload_n (pc' := 35) rfl rfl ?_
    refine jw_new' (pc' := 38) (k := 96) (n := 5) rfl rfl rfl rfl rfl rfl rfl (fun r_5 h_6 e_7 e_8 => ?_)
    replace w := w r_5 h_6 e_7 e_8
    refine jw_dup (pc' := 39) rfl rfl ?_
    refine jw_cV (st := [vR 96 r_5, vI x2, vR 76 (jar h (jfr h 45 r0) (ixn x1))]) (sa := [vR 96 r_5]) okX14_init rfl rfl rfl rfl rfl rfl (jstp_init (sa := []) (st := [vR 96 r_5, vI x2, vR 76 (jar h (jfr h 45 r0) (ixn x1))]) rfl rfl sX14_init okX14_init (lw_g (jtb_mem (c := 2) (i := 222) rfl) rfl) (jnz e_7) rfl rfl) w (fun h_9 _ _ w => ?_)
    obtain ⟨g_12, w⟩ := w
    obtain ⟨g_13, w⟩ := w
    refine jw_aast' (pc' := 43) rfl rfl rfl rfl rfl rfl g_12 g_13 (fun h_14 e_15 => ?_)
    replace w := w h_14 e_15
    refine jw_iinc (pc' := 46) (y := x2 + (1 : Int32)) (ls' := [some (vR 5 r0), some (vI x1), some (vI (x2 + (1 : Int32)))]) rfl (by decide) rfl rfl rfl ?_
    refine jw_goto (pc' := 22) rfl rfl ?_
    exact hK22 _ _ _ _ w
def L_X5_row_22 (D : JD) (d : Nat) (Q : JO → JH → Prop) : Nat → Nat → Int32 → Int32 → JH → Prop
  | 0 => fun _ _ _ _ => False
  | n + 1 => fun r0 x1 x2 h => W_X5_row_22 D d Q (L_X5_row_22 D d Q n) r0 x1 x2 h
theorem l_X5_row_22 {D : JD} {d : Nat} {Q : JO → JH → Prop} : ∀ (n : Nat) (r0 : Nat) (x1 : Int32) (x2 : Int32) (h : JH), L_X5_row_22 D d Q n r0 x1 x2 h → JW D (d + 1) mX5_row 22 [some (vR 5 r0), some (vI x1), some (vI x2)] [] h Q := by
  intro n
  induction n with
  | zero => intro _ _ _ _ w; exact w.elim
  | succ n ih => intro _ _ _ h w; exact w_X5_row_22 ih w
def W_X5_row_0 (D : JD) (d : Nat) (Q : JO → JH → Prop) (r0 : Nat) (x1 : Int32) (h : JH) : Prop :=
  r0 ≠ 0 ∧ ((jfr h 45 r0) ≠ 0 ∧ jin x1 (jln h (jfr h 45 r0)) ∧ (((jar h (jfr h 45 r0) (ixn x1)) ≠ 0 → W_X5_row_49 D d Q r0 x1 h) ∧ ((jar h (jfr h 45 r0) (ixn x1)) = 0 → ∀ (r_5 : Nat) (h_6 : JH), r_5 = jsz h + 1 → h_6 = nwa h 224 10 → (jin x1 (jln h_6 (jfr h 45 r0)) ∧ ∀ h_10 : JH, h_10 = war h_6 (jfr h 45 r0) (ixn x1) r_5 → (∃ n, L_X5_row_22 D d Q n r0 x1 (0 : Int32) h_10)))))
theorem w_X5_row_0 {D : JD} {d : Nat} {Q : JO → JH → Prop} {r0 : Nat} {x1 : Int32} {h : JH} (w : W_X5_row_0 D d Q r0 x1 h) : JW D (d + 1) mX5_row 0 [some (vR 5 r0), some (vI x1), none] [] h Q := by
  unfold W_X5_row_0 at w
  refine jw_aload_n (pc' := 1) rfl rfl ?_
  obtain ⟨g_1, w⟩ := w
  refine jw_getR (pc' := 4) (F := 45) (t' := 140) rfl rfl rfl rfl rfl g_1 ?_
  refine jw_iload_n (pc' := 5) rfl rfl ?_
  obtain ⟨g_2, w⟩ := w
  obtain ⟨g_3, w⟩ := w
  refine jw_aald (pc' := 6) (t' := 76) rfl rfl rfl rfl g_2 g_3.ix g_3.2 ?_
  refine jw_ifnonnull (tgt := 49) (pc' := 9) rfl rfl (fun c_4 => ?_) (fun c_4 => ?_)
  · replace w := w.1 c_4
    exact w_X5_row_49 w
  · replace w := w.2 c_4
    refine jw_aload_n (pc' := 10) rfl rfl ?_
    refine jw_getR (pc' := 13) (F := 45) (t' := 140) rfl rfl rfl rfl rfl g_1 ?_
    refine jw_iload_n (pc' := 14) rfl rfl ?_
    refine jw_bipush (pc' := 16) (x := (10 : Int32)) rfl rfl ?_
    refine jw_anew' (pc' := 19) (n := 10) (k := 224) rfl rfl rfl rfl rfl rfl rfl (jtb_mem (c := 1) (i := 178) rfl) ⟨by decide, rfl⟩ rfl (fun r_5 h_6 e_7 e_8 => ?_)
    replace w := w r_5 h_6 e_7 e_8
    obtain ⟨g_9, w⟩ := w
    refine jw_aast' (pc' := 20) rfl rfl rfl rfl rfl rfl g_2 g_9 (fun h_10 e_11 => ?_)
    replace w := w h_10 e_11
    refine jw_iconst (pc' := 21) (x := (0 : Int32)) rfl rfl ?_
    refine jw_istore_n (pc' := 22) (ls' := [some (vR 5 r0), some (vI x1), some (vI (0 : Int32))]) rfl (by decide) rfl ?_
    obtain ⟨n, w⟩ := w
    exact l_X5_row_22 n _ _ _ _ w
def T_X5_row (D : JD) (d : Nat) (Q : JO → JH → Prop) (r0 : Nat) (x1 : Int32) (h : JH) : Prop := W_X5_row_0 D d Q r0 x1 h
theorem t_X5_row {D : JD} {d : Nat} {Q : JO → JH → Prop} {r0 : Nat} {x1 : Int32} {h : JH} (w : T_X5_row D d Q r0 x1 h) : cX5_row D (d + 1) r0 x1 h Q := by
  unfold T_X5_row at w
  unfold cX5_row
  exact w_X5_row_0 w
def W_X5_column_2 (D : JD) (d : Nat) (Q : JO → JH → Prop) (K2 : Nat → Nat → Int32 → JH → Prop) (r0 : Nat) (r1 : Nat) (x2 : Int32) (h : JH) : Prop :=
  r0 ≠ 0 ∧ (((jfi h 44 r0) ≤ x2 → Q (.inl (some (vI (-1 : Int32)))) h) ∧ (¬ (jfi h 44 r0) ≤ x2 → (jfr h 43 r0) ≠ 0 ∧ jin x2 (jln h (jfr h 43 r0)) ∧ ((jar h (jfr h 43 r0) (ixn x2)) ≠ 0 ∧ ((jfr h 92 (jar h (jfr h 43 r0) (ixn x2))) ≠ 0 ∧ (cJ5_equals D d (jfr h 92 (jar h (jfr h 43 r0) (ixn x2))) r1 h (pI D h (fun v_9 h_7 => (v_9 = 0 → K2 r0 r1 (x2 + (1 : Int32)) h_7) ∧ (¬ v_9 = 0 → Q (.inl (some (vI x2))) h_7)) (jth Q)))))))
theorem w_X5_column_2 {D : JD} {d : Nat} {Q : JO → JH → Prop} {K2 : Nat → Nat → Int32 → JH → Prop} {r0 : Nat} {r1 : Nat} {x2 : Int32} {h : JH} (hK2 : ∀ (r0 : Nat) (r1 : Nat) (x2 : Int32) (h : JH), K2 r0 r1 x2 h → JW D (d + 1) mX5_column 2 [some (vR 5 r0), some (vR 64 r1), some (vI x2)] [] h Q) (w : W_X5_column_2 D d Q K2 r0 r1 x2 h) : JW D (d + 1) mX5_column 2 [some (vR 5 r0), some (vR 64 r1), some (vI x2)] [] h Q := by
  unfold W_X5_column_2 at w
  refine jw_iload_n (pc' := 3) rfl rfl ?_
  refine jw_aload_n (pc' := 4) rfl rfl ?_
  obtain ⟨g_1, w⟩ := w
  refine jw_getI (pc' := 7) (F := 44) rfl rfl rfl rfl g_1 ?_
  refine jw_icmp_ge (tgt := 34) (pc' := 10) rfl rfl (fun c_2 => ?_) (fun c_2 => ?_)
  · replace w := w.1 c_2
    refine jw_iconst (pc' := 35) (x := (-1 : Int32)) rfl rfl ?_
    exact jw_ireturn rfl rfl (rfl) w
  · replace w := w.2 c_2
    refine jw_aload_n (pc' := 11) rfl rfl ?_
    refine jw_getR (pc' := 14) (F := 43) (t' := 82) rfl rfl rfl rfl rfl g_1 ?_
    refine jw_iload_n (pc' := 15) rfl rfl ?_
    obtain ⟨g_3, w⟩ := w
    obtain ⟨g_4, w⟩ := w
    refine jw_aald (pc' := 16) (t' := 16) rfl rfl rfl rfl g_3 g_4.ix g_4.2 ?_
    obtain ⟨g_5, w⟩ := w
    refine jw_getR (pc' := 19) (F := 92) (t' := 64) rfl rfl rfl rfl rfl g_5 ?_
    refine jw_aload_n (pc' := 20) rfl rfl ?_
    obtain ⟨g_6, w⟩ := w
    refine jw_cI (st := []) (sa := [vR 64 (jfr h 92 (jar h (jfr h 43 r0) (ixn x2))), vR 64 r1]) okJ5_equals rfl rfl rfl rfl rfl rfl (jstp_virtual (sa := [vR 64 r1]) (st := []) (k := 0) rfl rfl sJ5_equals okJ5_equals g_6 (one64.k g_6) rfl rfl) w (fun v_9 h_7 _ _ w => ?_)
    refine jw_if_eq (tgt := 28) (pc' := 26) rfl rfl (fun c_10 => ?_) (fun c_10 => ?_)
    · replace w := w.1 c_10
      refine jw_iinc (pc' := 31) (y := x2 + (1 : Int32)) (ls' := [some (vR 5 r0), some (vR 64 r1), some (vI (x2 + (1 : Int32)))]) rfl (by decide) rfl rfl rfl ?_
      refine jw_goto (pc' := 2) rfl rfl ?_
      exact hK2 _ _ _ _ w
    · replace w := w.2 c_10
      refine jw_iload_n (pc' := 27) rfl rfl ?_
      exact jw_ireturn rfl rfl (rfl) w
def L_X5_column_2 (D : JD) (d : Nat) (Q : JO → JH → Prop) : Nat → Nat → Nat → Int32 → JH → Prop
  | 0 => fun _ _ _ _ => False
  | n + 1 => fun r0 r1 x2 h => W_X5_column_2 D d Q (L_X5_column_2 D d Q n) r0 r1 x2 h
theorem l_X5_column_2 {D : JD} {d : Nat} {Q : JO → JH → Prop} : ∀ (n : Nat) (r0 : Nat) (r1 : Nat) (x2 : Int32) (h : JH), L_X5_column_2 D d Q n r0 r1 x2 h → JW D (d + 1) mX5_column 2 [some (vR 5 r0), some (vR 64 r1), some (vI x2)] [] h Q := by
  intro n
  induction n with
  | zero => intro _ _ _ _ w; exact w.elim
  | succ n ih => intro _ _ _ h w; exact w_X5_column_2 ih w
def W_X5_column_0 (D : JD) (d : Nat) (Q : JO → JH → Prop) (r0 : Nat) (r1 : Nat) (h : JH) : Prop :=
  ∃ n, L_X5_column_2 D d Q n r0 r1 (0 : Int32) h
theorem w_X5_column_0 {D : JD} {d : Nat} {Q : JO → JH → Prop} {r0 : Nat} {r1 : Nat} {h : JH} (w : W_X5_column_0 D d Q r0 r1 h) : JW D (d + 1) mX5_column 0 [some (vR 5 r0), some (vR 64 r1), none] [] h Q := by
  unfold W_X5_column_0 at w
  refine jw_iconst (pc' := 1) (x := (0 : Int32)) rfl rfl ?_
  refine jw_istore_n (pc' := 2) (ls' := [some (vR 5 r0), some (vR 64 r1), some (vI (0 : Int32))]) rfl (by decide) rfl ?_
  obtain ⟨n, w⟩ := w
  exact l_X5_column_2 n _ _ _ _ w
def T_X5_column (D : JD) (d : Nat) (Q : JO → JH → Prop) (r0 : Nat) (r1 : Nat) (h : JH) : Prop := W_X5_column_0 D d Q r0 r1 h
theorem t_X5_column {D : JD} {d : Nat} {Q : JO → JH → Prop} {r0 : Nat} {r1 : Nat} {h : JH} (w : T_X5_column D d Q r0 r1 h) : cX5_column D (d + 1) r0 r1 h Q := by
  unfold T_X5_column at w
  unfold cX5_column
  exact w_X5_column_0 w
def W_X5_keep_52 (D : JD) (d : Nat) (Q : JO → JH → Prop) (K4 : Nat → Nat → Int32 → Int32 → JH → Prop) (r0 : Nat) (r1 : Nat) (x2 : Int32) (x3 : Int32) (h : JH) : Prop :=
  K4 r0 r1 x2 (x3 + (1 : Int32)) h
theorem w_X5_keep_52 {D : JD} {d : Nat} {Q : JO → JH → Prop} {K4 : Nat → Nat → Int32 → Int32 → JH → Prop} {r0 : Nat} {r1 : Nat} {x2 : Int32} {x3 : Int32} {h : JH} (hK4 : ∀ (r0 : Nat) (r1 : Nat) (x2 : Int32) (x3 : Int32) (h : JH), K4 r0 r1 x2 x3 h → JW D (d + 1) mX5_keep 4 [some (vR 5 r0), some (vR 71 r1), some (vI x2), some (vI x3), none] [] h Q) (w : W_X5_keep_52 D d Q K4 r0 r1 x2 x3 h) : JW D (d + 1) mX5_keep 52 [some (vR 5 r0), some (vR 71 r1), some (vI x2), some (vI x3), none] [] h Q := by
  unfold W_X5_keep_52 at w
  refine jw_iinc (pc' := 55) (y := x3 + (1 : Int32)) (ls' := [some (vR 5 r0), some (vR 71 r1), some (vI x2), some (vI (x3 + (1 : Int32))), none]) rfl (by decide) rfl rfl rfl ?_
  refine jw_goto (pc' := 4) rfl rfl ?_
  exact hK4 _ _ _ _ _ w
def W_X5_keep_4 (D : JD) (d : Nat) (Q : JO → JH → Prop) (K4 : Nat → Nat → Int32 → Int32 → JH → Prop) (r0 : Nat) (r1 : Nat) (x2 : Int32) (x3 : Int32) (h : JH) : Prop :=
  r0 ≠ 0 ∧ (((jfi h 46 r0) ≤ x3 → ∀ h_3 : JH, h_3 = wfi h 46 r0 x2 → (Q (.inl none) h_3)) ∧ (¬ (jfi h 46 r0) ≤ x3 → r1 ≠ 0 ∧ jin x3 (jln h r1) ∧ ((¬ (jai h r1 (ixn x3)) = 0 → (jfr h 45 r0) ≠ 0 ∧ jin x3 (jln h (jfr h 45 r0)) ∧ (jin x2 (jln h (jfr h 45 r0)) ∧ (jin x3 (jln h (jfr h 45 r0)) ∧ ∀ h_12 : JH, h_12 = war h (jfr h 45 r0) (ixn x3) (jar h (jfr h 45 r0) (ixn x2)) → ((jfr h_12 45 r0) ≠ 0 ∧ jin x2 (jln h_12 (jfr h_12 45 r0)) ∧ ∀ h_16 : JH, h_16 = war h_12 (jfr h_12 45 r0) (ixn x2) (jar h (jfr h 45 r0) (ixn x3)) → (W_X5_keep_52 D d Q K4 r0 r1 (x2 + (1 : Int32)) x3 h_16))))) ∧ ((jai h r1 (ixn x3)) = 0 → W_X5_keep_52 D d Q K4 r0 r1 x2 x3 h))))
theorem w_X5_keep_4 {D : JD} {d : Nat} {Q : JO → JH → Prop} {K4 : Nat → Nat → Int32 → Int32 → JH → Prop} {r0 : Nat} {r1 : Nat} {x2 : Int32} {x3 : Int32} {h : JH} (hK4 : ∀ (r0 : Nat) (r1 : Nat) (x2 : Int32) (x3 : Int32) (h : JH), K4 r0 r1 x2 x3 h → JW D (d + 1) mX5_keep 4 [some (vR 5 r0), some (vR 71 r1), some (vI x2), some (vI x3), none] [] h Q) (w : W_X5_keep_4 D d Q K4 r0 r1 x2 x3 h) : JW D (d + 1) mX5_keep 4 [some (vR 5 r0), some (vR 71 r1), some (vI x2), some (vI x3), none] [] h Q := by
  unfold W_X5_keep_4 at w
  refine jw_iload_n (pc' := 5) rfl rfl ?_
  refine jw_aload_n (pc' := 6) rfl rfl ?_
  obtain ⟨g_1, w⟩ := w
  refine jw_getI (pc' := 9) (F := 46) rfl rfl rfl rfl g_1 ?_
  refine jw_icmp_ge (tgt := 58) (pc' := 12) rfl rfl (fun c_2 => ?_) (fun c_2 => ?_)
  · replace w := w.1 c_2
    refine jw_aload_n (pc' := 59) rfl rfl ?_
    refine jw_iload_n (pc' := 60) rfl rfl ?_
    refine jw_putI' (pc' := 63) (F := 46) rfl rfl rfl (Or.inr rfl) (Or.inl rfl) rfl (rfl) (rfl) rfl g_1 (fun h_3 e_4 => ?_)
    replace w := w h_3 e_4
    exact jw_return rfl rfl w
  · replace w := w.2 c_2
    refine jw_aload_n (pc' := 13) rfl rfl ?_
    refine jw_iload_n (pc' := 14) rfl rfl ?_
    obtain ⟨g_5, w⟩ := w
    obtain ⟨g_6, w⟩ := w
    refine jw_zald (pc' := 15) rfl rfl rfl rfl g_5 g_6.ix g_6.2 ?_
    refine jw_if_ne (tgt := 21) (pc' := 18) rfl rfl (fun c_7 => ?_) (fun c_7 => ?_)
    · replace w := w.1 c_7
      refine jw_aload_n (pc' := 22) rfl rfl ?_
      refine jw_getR (pc' := 25) (F := 45) (t' := 140) rfl rfl rfl rfl rfl g_1 ?_
      refine jw_iload_n (pc' := 26) rfl rfl ?_
      obtain ⟨g_8, w⟩ := w
      obtain ⟨g_9, w⟩ := w
      refine jw_aald (pc' := 27) (t' := 76) rfl rfl rfl rfl g_8 g_9.ix g_9.2 ?_
      refine jw_astore (pc' := 29) (ls' := [some (vR 5 r0), some (vR 71 r1), some (vI x2), some (vI x3), some (vR 76 (jar h (jfr h 45 r0) (ixn x3)))]) rfl (by decide) rfl ?_
      refine jw_aload_n (pc' := 30) rfl rfl ?_
      refine jw_getR (pc' := 33) (F := 45) (t' := 140) rfl rfl rfl rfl rfl g_1 ?_
      refine jw_iload_n (pc' := 34) rfl rfl ?_
      refine jw_aload_n (pc' := 35) rfl rfl ?_
      refine jw_getR (pc' := 38) (F := 45) (t' := 140) rfl rfl rfl rfl rfl g_1 ?_
      refine jw_iload_n (pc' := 39) rfl rfl ?_
      obtain ⟨g_10, w⟩ := w
      refine jw_aald (pc' := 40) (t' := 76) rfl rfl rfl rfl g_8 g_10.ix g_10.2 ?_
      obtain ⟨g_11, w⟩ := w
      refine jw_aast' (pc' := 41) rfl rfl rfl rfl rfl rfl g_8 g_11 (fun h_12 e_13 => ?_)
      replace w := w h_12 e_13
      refine jw_aload_n (pc' := 42) rfl rfl ?_
      refine jw_getR (pc' := 45) (F := 45) (t' := 140) rfl rfl rfl rfl rfl g_1 ?_
      refine jw_iload_n (pc' := 46) rfl rfl ?_
      refine jw_aload (pc' := 48) rfl rfl ?_
      obtain ⟨g_14, w⟩ := w
      obtain ⟨g_15, w⟩ := w
      refine jw_aast' (pc' := 49) rfl rfl rfl rfl rfl rfl g_14 g_15 (fun h_16 e_17 => ?_)
      replace w := w h_16 e_17
      refine jw_iinc (pc' := 52) (y := x2 + (1 : Int32)) (ls' := [some (vR 5 r0), some (vR 71 r1), some (vI (x2 + (1 : Int32))), some (vI x3), some (vR 76 (jar h (jfr h 45 r0) (ixn x3)))]) rfl (by decide) rfl rfl rfl ?_
      refine jw_gen (ls' := [some (vR 5 r0), some (vR 71 r1), some (vI (x2 + (1 : Int32))), some (vI x3), none]) (st' := []) (And.intro (Or.inl rfl) (And.intro (Or.inl rfl) (And.intro (Or.inl rfl) (And.intro (Or.inl rfl) (trivial))))) (trivial) ?_
      exact w_X5_keep_52 hK4 w
    · replace w := w.2 c_7
      refine jw_goto (pc' := 52) rfl rfl ?_
      exact w_X5_keep_52 hK4 w
def L_X5_keep_4 (D : JD) (d : Nat) (Q : JO → JH → Prop) : Nat → Nat → Nat → Int32 → Int32 → JH → Prop
  | 0 => fun _ _ _ _ _ => False
  | n + 1 => fun r0 r1 x2 x3 h => W_X5_keep_4 D d Q (L_X5_keep_4 D d Q n) r0 r1 x2 x3 h
theorem l_X5_keep_4 {D : JD} {d : Nat} {Q : JO → JH → Prop} : ∀ (n : Nat) (r0 : Nat) (r1 : Nat) (x2 : Int32) (x3 : Int32) (h : JH), L_X5_keep_4 D d Q n r0 r1 x2 x3 h → JW D (d + 1) mX5_keep 4 [some (vR 5 r0), some (vR 71 r1), some (vI x2), some (vI x3), none] [] h Q := by
  intro n
  induction n with
  | zero => intro _ _ _ _ _ w; exact w.elim
  | succ n ih => intro _ _ _ _ h w; exact w_X5_keep_4 ih w
def W_X5_keep_0 (D : JD) (d : Nat) (Q : JO → JH → Prop) (r0 : Nat) (r1 : Nat) (h : JH) : Prop :=
  ∃ n, L_X5_keep_4 D d Q n r0 r1 (0 : Int32) (0 : Int32) h
theorem w_X5_keep_0 {D : JD} {d : Nat} {Q : JO → JH → Prop} {r0 : Nat} {r1 : Nat} {h : JH} (w : W_X5_keep_0 D d Q r0 r1 h) : JW D (d + 1) mX5_keep 0 [some (vR 5 r0), some (vR 71 r1), none, none, none] [] h Q := by
  unfold W_X5_keep_0 at w
  refine jw_iconst (pc' := 1) (x := (0 : Int32)) rfl rfl ?_
  refine jw_istore_n (pc' := 2) (ls' := [some (vR 5 r0), some (vR 71 r1), some (vI (0 : Int32)), none, none]) rfl (by decide) rfl ?_
  refine jw_iconst (pc' := 3) (x := (0 : Int32)) rfl rfl ?_
  refine jw_istore_n (pc' := 4) (ls' := [some (vR 5 r0), some (vR 71 r1), some (vI (0 : Int32)), some (vI (0 : Int32)), none]) rfl (by decide) rfl ?_
  obtain ⟨n, w⟩ := w
  exact l_X5_keep_4 n _ _ _ _ _ w
def T_X5_keep (D : JD) (d : Nat) (Q : JO → JH → Prop) (r0 : Nat) (r1 : Nat) (h : JH) : Prop := W_X5_keep_0 D d Q r0 r1 h
theorem t_X5_keep {D : JD} {d : Nat} {Q : JO → JH → Prop} {r0 : Nat} {r1 : Nat} {h : JH} (w : T_X5_keep D d Q r0 r1 h) : cX5_keep D (d + 1) r0 r1 h Q := by
  unfold T_X5_keep at w
  unfold cX5_keep
  exact w_X5_keep_0 w
def W_X5_missing_37 (D : JD) (d : Nat) (Q : JO → JH → Prop) (K2 : Nat → Nat → Int32 → JH → Prop) (r0 : Nat) (r1 : Nat) (x2 : Int32) (h : JH) : Prop :=
  K2 r0 r1 (x2 + (1 : Int32)) h
theorem w_X5_missing_37 {D : JD} {d : Nat} {Q : JO → JH → Prop} {K2 : Nat → Nat → Int32 → JH → Prop} {r0 : Nat} {r1 : Nat} {x2 : Int32} {h : JH} (hK2 : ∀ (r0 : Nat) (r1 : Nat) (x2 : Int32) (h : JH), K2 r0 r1 x2 h → JW D (d + 1) mX5_missing 2 [some (vR 5 r0), some (vR 76 r1), some (vI x2)] [] h Q) (w : W_X5_missing_37 D d Q K2 r0 r1 x2 h) : JW D (d + 1) mX5_missing 37 [some (vR 5 r0), some (vR 76 r1), some (vI x2)] [] h Q := by
  unfold W_X5_missing_37 at w
  refine jw_iinc (pc' := 40) (y := x2 + (1 : Int32)) (ls' := [some (vR 5 r0), some (vR 76 r1), some (vI (x2 + (1 : Int32)))]) rfl (by decide) rfl rfl rfl ?_
  refine jw_goto (pc' := 2) rfl rfl ?_
  exact hK2 _ _ _ _ w
def W_X5_missing_2 (D : JD) (d : Nat) (Q : JO → JH → Prop) (K2 : Nat → Nat → Int32 → JH → Prop) (r0 : Nat) (r1 : Nat) (x2 : Int32) (h : JH) : Prop :=
  r0 ≠ 0 ∧ (((jfi h 44 r0) ≤ x2 → Q (.inl none) h) ∧ (¬ (jfi h 44 r0) ≤ x2 → (jfr h 43 r0) ≠ 0 ∧ jin x2 (jln h (jfr h 43 r0)) ∧ ((jar h (jfr h 43 r0) (ixn x2)) ≠ 0 ∧ (((jfi h 94 (jar h (jfr h 43 r0) (ixn x2))) = 0 → W_X5_missing_37 D d Q K2 r0 r1 x2 h) ∧ (¬ (jfi h 94 (jar h (jfr h 43 r0) (ixn x2))) = 0 → r1 ≠ 0 ∧ jin x2 (jln h r1) ∧ ((jar h r1 (ixn x2)) ≠ 0 ∧ (cX14_isEmpty D d (jar h r1 (ixn x2)) h (pI D h (fun v_12 h_10 => (v_12 = 0 → W_X5_missing_37 D d Q K2 r0 r1 x2 h_10) ∧ (¬ v_12 = 0 → cX1_fault D d (jcs D 197) h_10 (pR D h_10 9 (fun v_16 h_14 => v_16 ≠ 0 ∧ (Q (.inr v_16) h_14)) (jth Q)))) (jth Q)))))))))
theorem w_X5_missing_2 {D : JD} {d : Nat} {Q : JO → JH → Prop} {K2 : Nat → Nat → Int32 → JH → Prop} {r0 : Nat} {r1 : Nat} {x2 : Int32} {h : JH} (hK2 : ∀ (r0 : Nat) (r1 : Nat) (x2 : Int32) (h : JH), K2 r0 r1 x2 h → JW D (d + 1) mX5_missing 2 [some (vR 5 r0), some (vR 76 r1), some (vI x2)] [] h Q) (w : W_X5_missing_2 D d Q K2 r0 r1 x2 h) : JW D (d + 1) mX5_missing 2 [some (vR 5 r0), some (vR 76 r1), some (vI x2)] [] h Q := by
  unfold W_X5_missing_2 at w
  refine jw_iload_n (pc' := 3) rfl rfl ?_
  refine jw_aload_n (pc' := 4) rfl rfl ?_
  obtain ⟨g_1, w⟩ := w
  refine jw_getI (pc' := 7) (F := 44) rfl rfl rfl rfl g_1 ?_
  refine jw_icmp_ge (tgt := 43) (pc' := 10) rfl rfl (fun c_2 => ?_) (fun c_2 => ?_)
  · replace w := w.1 c_2
    exact jw_return rfl rfl w
  · replace w := w.2 c_2
    refine jw_aload_n (pc' := 11) rfl rfl ?_
    refine jw_getR (pc' := 14) (F := 43) (t' := 82) rfl rfl rfl rfl rfl g_1 ?_
    refine jw_iload_n (pc' := 15) rfl rfl ?_
    obtain ⟨g_3, w⟩ := w
    obtain ⟨g_4, w⟩ := w
    refine jw_aald (pc' := 16) (t' := 16) rfl rfl rfl rfl g_3 g_4.ix g_4.2 ?_
    obtain ⟨g_5, w⟩ := w
    refine jw_getI (pc' := 19) (F := 94) rfl rfl rfl rfl g_5 ?_
    refine jw_if_eq (tgt := 37) (pc' := 22) rfl rfl (fun c_6 => ?_) (fun c_6 => ?_)
    · replace w := w.1 c_6
      exact w_X5_missing_37 hK2 w
    · replace w := w.2 c_6
      refine jw_aload_n (pc' := 23) rfl rfl ?_
      refine jw_iload_n (pc' := 24) rfl rfl ?_
      obtain ⟨g_7, w⟩ := w
      obtain ⟨g_8, w⟩ := w
      refine jw_aald (pc' := 25) (t' := 8) rfl rfl rfl rfl g_7 g_8.ix g_8.2 ?_
      obtain ⟨g_9, w⟩ := w
      refine jw_cI (st := []) (sa := [vR 8 (jar h r1 (ixn x2))]) okX14_isEmpty rfl rfl rfl rfl rfl rfl (jstp_virtual (sa := []) (st := []) (k := 0) rfl rfl sX14_isEmpty okX14_isEmpty g_9 (one8.k g_9) rfl rfl) w (fun v_12 h_10 _ _ w => ?_)
      refine jw_if_eq (tgt := 37) (pc' := 31) rfl rfl (fun c_13 => ?_) (fun c_13 => ?_)
      · replace w := w.1 c_13
        exact w_X5_missing_37 hK2 w
      · replace w := w.2 c_13
        refine jw_ldcS (pc' := 33) rfl rfl rfl rfl ?_
        refine jw_cR (st := []) (sa := [vR 51 (jcs D 197)]) okX1_fault rfl rfl rfl rfl rfl rfl (jstp_static (sa := [vR 51 (jcs D 197)]) (st := []) rfl rfl sX1_fault okX1_fault rfl rfl) w (fun v_16 h_14 _ _ _ w => ?_)
        obtain ⟨g_17, w⟩ := w
        exact jw_athrow rfl rfl g_17 w
def L_X5_missing_2 (D : JD) (d : Nat) (Q : JO → JH → Prop) : Nat → Nat → Nat → Int32 → JH → Prop
  | 0 => fun _ _ _ _ => False
  | n + 1 => fun r0 r1 x2 h => W_X5_missing_2 D d Q (L_X5_missing_2 D d Q n) r0 r1 x2 h
theorem l_X5_missing_2 {D : JD} {d : Nat} {Q : JO → JH → Prop} : ∀ (n : Nat) (r0 : Nat) (r1 : Nat) (x2 : Int32) (h : JH), L_X5_missing_2 D d Q n r0 r1 x2 h → JW D (d + 1) mX5_missing 2 [some (vR 5 r0), some (vR 76 r1), some (vI x2)] [] h Q := by
  intro n
  induction n with
  | zero => intro _ _ _ _ w; exact w.elim
  | succ n ih => intro _ _ _ h w; exact w_X5_missing_2 ih w
def W_X5_missing_0 (D : JD) (d : Nat) (Q : JO → JH → Prop) (r0 : Nat) (r1 : Nat) (h : JH) : Prop :=
  ∃ n, L_X5_missing_2 D d Q n r0 r1 (0 : Int32) h
theorem w_X5_missing_0 {D : JD} {d : Nat} {Q : JO → JH → Prop} {r0 : Nat} {r1 : Nat} {h : JH} (w : W_X5_missing_0 D d Q r0 r1 h) : JW D (d + 1) mX5_missing 0 [some (vR 5 r0), some (vR 76 r1), none] [] h Q := by
  unfold W_X5_missing_0 at w
  refine jw_iconst (pc' := 1) (x := (0 : Int32)) rfl rfl ?_
  refine jw_istore_n (pc' := 2) (ls' := [some (vR 5 r0), some (vR 76 r1), some (vI (0 : Int32))]) rfl (by decide) rfl ?_
  obtain ⟨n, w⟩ := w
  exact l_X5_missing_2 n _ _ _ _ w
def T_X5_missing (D : JD) (d : Nat) (Q : JO → JH → Prop) (r0 : Nat) (r1 : Nat) (h : JH) : Prop := W_X5_missing_0 D d Q r0 r1 h
theorem t_X5_missing {D : JD} {d : Nat} {Q : JO → JH → Prop} {r0 : Nat} {r1 : Nat} {h : JH} (w : T_X5_missing D d Q r0 r1 h) : cX5_missing D (d + 1) r0 r1 h Q := by
  unfold T_X5_missing at w
  unfold cX5_missing
  exact w_X5_missing_0 w
def W_X5_singles_96 (D : JD) (d : Nat) (Q : JO → JH → Prop) (K2 : Nat → Int32 → JH → Prop) (r0 : Nat) (x1 : Int32) (h : JH) : Prop :=
  K2 r0 (x1 + (1 : Int32)) h
theorem w_X5_singles_96 {D : JD} {d : Nat} {Q : JO → JH → Prop} {K2 : Nat → Int32 → JH → Prop} {r0 : Nat} {x1 : Int32} {h : JH} (hK2 : ∀ (r0 : Nat) (x1 : Int32) (h : JH), K2 r0 x1 h → JW D (d + 1) mX5_singles 2 [some (vR 5 r0), some (vI x1), none, none] [] h Q) (w : W_X5_singles_96 D d Q K2 r0 x1 h) : JW D (d + 1) mX5_singles 96 [some (vR 5 r0), some (vI x1), none, none] [] h Q := by
  unfold W_X5_singles_96 at w
  refine jw_iinc (pc' := 99) (y := x1 + (1 : Int32)) (ls' := [some (vR 5 r0), some (vI (x1 + (1 : Int32))), none, none]) rfl (by decide) rfl rfl rfl ?_
  refine jw_goto (pc' := 2) rfl rfl ?_
  exact hK2 _ _ _ w
def W_X5_singles_84 (D : JD) (d : Nat) (Q : JO → JH → Prop) (K2 : Nat → Int32 → JH → Prop) (K27 : Nat → Int32 → Int32 → JH → Prop) (K37 : Nat → Int32 → Int32 → Int32 → JH → Prop) (r0 : Nat) (x1 : Int32) (x2 : Int32) (x3 : Int32) (h : JH) : Prop :=
  K37 r0 x1 x2 (x3 + (1 : Int32)) h
theorem w_X5_singles_84 {D : JD} {d : Nat} {Q : JO → JH → Prop} {K2 : Nat → Int32 → JH → Prop} {K27 : Nat → Int32 → Int32 → JH → Prop} {K37 : Nat → Int32 → Int32 → Int32 → JH → Prop} {r0 : Nat} {x1 : Int32} {x2 : Int32} {x3 : Int32} {h : JH} (hK2 : ∀ (r0 : Nat) (x1 : Int32) (h : JH), K2 r0 x1 h → JW D (d + 1) mX5_singles 2 [some (vR 5 r0), some (vI x1), none, none] [] h Q) (hK27 : ∀ (r0 : Nat) (x1 : Int32) (x2 : Int32) (h : JH), K27 r0 x1 x2 h → JW D (d + 1) mX5_singles 27 [some (vR 5 r0), some (vI x1), some (vI x2), none] [] h Q) (hK37 : ∀ (r0 : Nat) (x1 : Int32) (x2 : Int32) (x3 : Int32) (h : JH), K37 r0 x1 x2 x3 h → JW D (d + 1) mX5_singles 37 [some (vR 5 r0), some (vI x1), some (vI x2), some (vI x3)] [] h Q) (w : W_X5_singles_84 D d Q K2 K27 K37 r0 x1 x2 x3 h) : JW D (d + 1) mX5_singles 84 [some (vR 5 r0), some (vI x1), some (vI x2), some (vI x3)] [] h Q := by
  unfold W_X5_singles_84 at w
  refine jw_iinc (pc' := 87) (y := x3 + (1 : Int32)) (ls' := [some (vR 5 r0), some (vI x1), some (vI x2), some (vI (x3 + (1 : Int32)))]) rfl (by decide) rfl rfl rfl ?_
  refine jw_goto (pc' := 37) rfl rfl ?_
  exact hK37 _ _ _ _ _ w
def W_X5_singles_37 (D : JD) (d : Nat) (Q : JO → JH → Prop) (K2 : Nat → Int32 → JH → Prop) (K27 : Nat → Int32 → Int32 → JH → Prop) (K37 : Nat → Int32 → Int32 → Int32 → JH → Prop) (r0 : Nat) (x1 : Int32) (x2 : Int32) (x3 : Int32) (h : JH) : Prop :=
  (x2 ≤ x3 → K27 r0 x1 (x2 + (1 : Int32)) h) ∧ (¬ x2 ≤ x3 → r0 ≠ 0 ∧ ((jfr h 45 r0) ≠ 0 ∧ jin x2 (jln h (jfr h 45 r0)) ∧ ((jar h (jfr h 45 r0) (ixn x2)) ≠ 0 ∧ jin x1 (jln h (jar h (jfr h 45 r0) (ixn x2))) ∧ ((jar h (jar h (jfr h 45 r0) (ixn x2)) (ixn x1)) ≠ 0 ∧ (cX14_isEmpty D d (jar h (jar h (jfr h 45 r0) (ixn x2)) (ixn x1)) h (pI D h (fun v_10 h_8 => (¬ v_10 = 0 → W_X5_singles_84 D d Q K2 K27 K37 r0 x1 x2 x3 h_8) ∧ (v_10 = 0 → (jfr h_8 45 r0) ≠ 0 ∧ jin x2 (jln h_8 (jfr h_8 45 r0)) ∧ ((jar h_8 (jfr h_8 45 r0) (ixn x2)) ≠ 0 ∧ jin x1 (jln h_8 (jar h_8 (jfr h_8 45 r0) (ixn x2))) ∧ (jin x3 (jln h_8 (jfr h_8 45 r0)) ∧ ((jar h_8 (jfr h_8 45 r0) (ixn x3)) ≠ 0 ∧ jin x1 (jln h_8 (jar h_8 (jfr h_8 45 r0) (ixn x3))) ∧ ((jar h_8 (jar h_8 (jfr h_8 45 r0) (ixn x2)) (ixn x1)) ≠ 0 ∧ (cX14_alike D d (jar h_8 (jar h_8 (jfr h_8 45 r0) (ixn x2)) (ixn x1)) (jar h_8 (jar h_8 (jfr h_8 45 r0) (ixn x3)) (ixn x1)) h_8 (pI D h_8 (fun v_22 h_20 => (v_22 = 0 → W_X5_singles_84 D d Q K2 K27 K37 r0 x1 x2 x3 h_20) ∧ (¬ v_22 = 0 → cX1_fault D d (jcs D 199) h_20 (pR D h_20 9 (fun v_26 h_24 => v_26 ≠ 0 ∧ (Q (.inr v_26) h_24)) (jth Q)))) (jth Q))))))))) (jth Q)))))))
theorem w_X5_singles_37 {D : JD} {d : Nat} {Q : JO → JH → Prop} {K2 : Nat → Int32 → JH → Prop} {K27 : Nat → Int32 → Int32 → JH → Prop} {K37 : Nat → Int32 → Int32 → Int32 → JH → Prop} {r0 : Nat} {x1 : Int32} {x2 : Int32} {x3 : Int32} {h : JH} (hK2 : ∀ (r0 : Nat) (x1 : Int32) (h : JH), K2 r0 x1 h → JW D (d + 1) mX5_singles 2 [some (vR 5 r0), some (vI x1), none, none] [] h Q) (hK27 : ∀ (r0 : Nat) (x1 : Int32) (x2 : Int32) (h : JH), K27 r0 x1 x2 h → JW D (d + 1) mX5_singles 27 [some (vR 5 r0), some (vI x1), some (vI x2), none] [] h Q) (hK37 : ∀ (r0 : Nat) (x1 : Int32) (x2 : Int32) (x3 : Int32) (h : JH), K37 r0 x1 x2 x3 h → JW D (d + 1) mX5_singles 37 [some (vR 5 r0), some (vI x1), some (vI x2), some (vI x3)] [] h Q) (w : W_X5_singles_37 D d Q K2 K27 K37 r0 x1 x2 x3 h) : JW D (d + 1) mX5_singles 37 [some (vR 5 r0), some (vI x1), some (vI x2), some (vI x3)] [] h Q := by
  unfold W_X5_singles_37 at w
  refine jw_iload_n (pc' := 38) rfl rfl ?_
  refine jw_iload_n (pc' := 39) rfl rfl ?_
  refine jw_icmp_ge (tgt := 90) (pc' := 42) rfl rfl (fun c_1 => ?_) (fun c_1 => ?_)
  · replace w := w.1 c_1
    refine jw_iinc (pc' := 93) (y := x2 + (1 : Int32)) (ls' := [some (vR 5 r0), some (vI x1), some (vI (x2 + (1 : Int32))), some (vI x3)]) rfl (by decide) rfl rfl rfl ?_
    refine jw_goto (pc' := 27) rfl rfl ?_
    refine jw_gen (ls' := [some (vR 5 r0), some (vI x1), some (vI (x2 + (1 : Int32))), none]) (st' := []) (And.intro (Or.inl rfl) (And.intro (Or.inl rfl) (And.intro (Or.inl rfl) (trivial)))) (trivial) ?_
    exact hK27 _ _ _ _ w
  · replace w := w.2 c_1
    refine jw_aload_n (pc' := 43) rfl rfl ?_
    obtain ⟨g_2, w⟩ := w
    refine jw_getR (pc' := 46) (F := 45) (t' := 140) rfl rfl rfl rfl rfl g_2 ?_
    refine jw_iload_n (pc' := 47) rfl rfl ?_
    obtain ⟨g_3, w⟩ := w
    obtain ⟨g_4, w⟩ := w
    refine jw_aald (pc' := 48) (t' := 76) rfl rfl rfl rfl g_3 g_4.ix g_4.2 ?_
    refine jw_iload_n (pc' := 49) rfl rfl ?_
    obtain ⟨g_5, w⟩ := w
    obtain ⟨g_6, w⟩ := w
    refine jw_aald (pc' := 50) (t' := 8) rfl rfl rfl rfl g_5 g_6.ix g_6.2 ?_
    obtain ⟨g_7, w⟩ := w
    refine jw_cI (st := []) (sa := [vR 8 (jar h (jar h (jfr h 45 r0) (ixn x2)) (ixn x1))]) okX14_isEmpty rfl rfl rfl rfl rfl rfl (jstp_virtual (sa := []) (st := []) (k := 0) rfl rfl sX14_isEmpty okX14_isEmpty g_7 (one8.k g_7) rfl rfl) w (fun v_10 h_8 _ _ w => ?_)
    refine jw_if_ne (tgt := 84) (pc' := 56) rfl rfl (fun c_11 => ?_) (fun c_11 => ?_)
    · replace w := w.1 c_11
      exact w_X5_singles_84 hK2 hK27 hK37 w
    · replace w := w.2 c_11
      refine jw_aload_n (pc' := 57) rfl rfl ?_
      refine jw_getR (pc' := 60) (F := 45) (t' := 140) rfl rfl rfl rfl rfl g_2 ?_
      refine jw_iload_n (pc' := 61) rfl rfl ?_
      obtain ⟨g_12, w⟩ := w
      obtain ⟨g_13, w⟩ := w
      refine jw_aald (pc' := 62) (t' := 76) rfl rfl rfl rfl g_12 g_13.ix g_13.2 ?_
      refine jw_iload_n (pc' := 63) rfl rfl ?_
      obtain ⟨g_14, w⟩ := w
      obtain ⟨g_15, w⟩ := w
      refine jw_aald (pc' := 64) (t' := 8) rfl rfl rfl rfl g_14 g_15.ix g_15.2 ?_
      refine jw_aload_n (pc' := 65) rfl rfl ?_
      refine jw_getR (pc' := 68) (F := 45) (t' := 140) rfl rfl rfl rfl rfl g_2 ?_
      refine jw_iload_n (pc' := 69) rfl rfl ?_
      obtain ⟨g_16, w⟩ := w
      refine jw_aald (pc' := 70) (t' := 76) rfl rfl rfl rfl g_12 g_16.ix g_16.2 ?_
      refine jw_iload_n (pc' := 71) rfl rfl ?_
      obtain ⟨g_17, w⟩ := w
      obtain ⟨g_18, w⟩ := w
      refine jw_aald (pc' := 72) (t' := 8) rfl rfl rfl rfl g_17 g_18.ix g_18.2 ?_
      obtain ⟨g_19, w⟩ := w
      refine jw_cI (st := []) (sa := [vR 8 (jar h_8 (jar h_8 (jfr h_8 45 r0) (ixn x2)) (ixn x1)), vR 8 (jar h_8 (jar h_8 (jfr h_8 45 r0) (ixn x3)) (ixn x1))]) okX14_alike rfl rfl rfl rfl rfl rfl (jstp_virtual (sa := [vR 8 (jar h_8 (jar h_8 (jfr h_8 45 r0) (ixn x3)) (ixn x1))]) (st := []) (k := 0) rfl rfl sX14_alike okX14_alike g_19 (one8.k g_19) rfl rfl) w (fun v_22 h_20 _ _ w => ?_)
      refine jw_if_eq (tgt := 84) (pc' := 78) rfl rfl (fun c_23 => ?_) (fun c_23 => ?_)
      · replace w := w.1 c_23
        exact w_X5_singles_84 hK2 hK27 hK37 w
      · replace w := w.2 c_23
        refine jw_ldcS (pc' := 80) rfl rfl rfl rfl ?_
        refine jw_cR (st := []) (sa := [vR 51 (jcs D 199)]) okX1_fault rfl rfl rfl rfl rfl rfl (jstp_static (sa := [vR 51 (jcs D 199)]) (st := []) rfl rfl sX1_fault okX1_fault rfl rfl) w (fun v_26 h_24 _ _ _ w => ?_)
        obtain ⟨g_27, w⟩ := w
        exact jw_athrow rfl rfl g_27 w
def L_X5_singles_37 (D : JD) (d : Nat) (Q : JO → JH → Prop) (K2 : Nat → Int32 → JH → Prop) (K27 : Nat → Int32 → Int32 → JH → Prop) : Nat → Nat → Int32 → Int32 → Int32 → JH → Prop
  | 0 => fun _ _ _ _ _ => False
  | n + 1 => fun r0 x1 x2 x3 h => W_X5_singles_37 D d Q K2 K27 (L_X5_singles_37 D d Q K2 K27 n) r0 x1 x2 x3 h
theorem l_X5_singles_37 {D : JD} {d : Nat} {Q : JO → JH → Prop} {K2 : Nat → Int32 → JH → Prop} {K27 : Nat → Int32 → Int32 → JH → Prop} (hK2 : ∀ (r0 : Nat) (x1 : Int32) (h : JH), K2 r0 x1 h → JW D (d + 1) mX5_singles 2 [some (vR 5 r0), some (vI x1), none, none] [] h Q) (hK27 : ∀ (r0 : Nat) (x1 : Int32) (x2 : Int32) (h : JH), K27 r0 x1 x2 h → JW D (d + 1) mX5_singles 27 [some (vR 5 r0), some (vI x1), some (vI x2), none] [] h Q) : ∀ (n : Nat) (r0 : Nat) (x1 : Int32) (x2 : Int32) (x3 : Int32) (h : JH), L_X5_singles_37 D d Q K2 K27 n r0 x1 x2 x3 h → JW D (d + 1) mX5_singles 37 [some (vR 5 r0), some (vI x1), some (vI x2), some (vI x3)] [] h Q := by
  intro n
  induction n with
  | zero => intro _ _ _ _ _ w; exact w.elim
  | succ n ih => intro _ _ _ _ h w; exact w_X5_singles_37 hK2 hK27 ih w
def W_X5_singles_27 (D : JD) (d : Nat) (Q : JO → JH → Prop) (K2 : Nat → Int32 → JH → Prop) (K27 : Nat → Int32 → Int32 → JH → Prop) (r0 : Nat) (x1 : Int32) (x2 : Int32) (h : JH) : Prop :=
  r0 ≠ 0 ∧ (((jfi h 46 r0) ≤ x2 → W_X5_singles_96 D d Q K2 r0 x1 h) ∧ (¬ (jfi h 46 r0) ≤ x2 → ∃ n, L_X5_singles_37 D d Q K2 K27 n r0 x1 x2 (0 : Int32) h))
theorem w_X5_singles_27 {D : JD} {d : Nat} {Q : JO → JH → Prop} {K2 : Nat → Int32 → JH → Prop} {K27 : Nat → Int32 → Int32 → JH → Prop} {r0 : Nat} {x1 : Int32} {x2 : Int32} {h : JH} (hK2 : ∀ (r0 : Nat) (x1 : Int32) (h : JH), K2 r0 x1 h → JW D (d + 1) mX5_singles 2 [some (vR 5 r0), some (vI x1), none, none] [] h Q) (hK27 : ∀ (r0 : Nat) (x1 : Int32) (x2 : Int32) (h : JH), K27 r0 x1 x2 h → JW D (d + 1) mX5_singles 27 [some (vR 5 r0), some (vI x1), some (vI x2), none] [] h Q) (w : W_X5_singles_27 D d Q K2 K27 r0 x1 x2 h) : JW D (d + 1) mX5_singles 27 [some (vR 5 r0), some (vI x1), some (vI x2), none] [] h Q := by
  unfold W_X5_singles_27 at w
  refine jw_iload_n (pc' := 28) rfl rfl ?_
  refine jw_aload_n (pc' := 29) rfl rfl ?_
  obtain ⟨g_1, w⟩ := w
  refine jw_getI (pc' := 32) (F := 46) rfl rfl rfl rfl g_1 ?_
  refine jw_icmp_ge (tgt := 96) (pc' := 35) rfl rfl (fun c_2 => ?_) (fun c_2 => ?_)
  · replace w := w.1 c_2
    refine jw_gen (ls' := [some (vR 5 r0), some (vI x1), none, none]) (st' := []) (And.intro (Or.inl rfl) (And.intro (Or.inl rfl) (trivial))) (trivial) ?_
    exact w_X5_singles_96 hK2 w
  · replace w := w.2 c_2
    refine jw_iconst (pc' := 36) (x := (0 : Int32)) rfl rfl ?_
    refine jw_istore_n (pc' := 37) (ls' := [some (vR 5 r0), some (vI x1), some (vI x2), some (vI (0 : Int32))]) rfl (by decide) rfl ?_
    obtain ⟨n, w⟩ := w
    exact l_X5_singles_37 hK2 hK27 n _ _ _ _ _ w
def L_X5_singles_27 (D : JD) (d : Nat) (Q : JO → JH → Prop) (K2 : Nat → Int32 → JH → Prop) : Nat → Nat → Int32 → Int32 → JH → Prop
  | 0 => fun _ _ _ _ => False
  | n + 1 => fun r0 x1 x2 h => W_X5_singles_27 D d Q K2 (L_X5_singles_27 D d Q K2 n) r0 x1 x2 h
theorem l_X5_singles_27 {D : JD} {d : Nat} {Q : JO → JH → Prop} {K2 : Nat → Int32 → JH → Prop} (hK2 : ∀ (r0 : Nat) (x1 : Int32) (h : JH), K2 r0 x1 h → JW D (d + 1) mX5_singles 2 [some (vR 5 r0), some (vI x1), none, none] [] h Q) : ∀ (n : Nat) (r0 : Nat) (x1 : Int32) (x2 : Int32) (h : JH), L_X5_singles_27 D d Q K2 n r0 x1 x2 h → JW D (d + 1) mX5_singles 27 [some (vR 5 r0), some (vI x1), some (vI x2), none] [] h Q := by
  intro n
  induction n with
  | zero => intro _ _ _ _ w; exact w.elim
  | succ n ih => intro _ _ _ h w; exact w_X5_singles_27 hK2 ih w
def W_X5_singles_2 (D : JD) (d : Nat) (Q : JO → JH → Prop) (K2 : Nat → Int32 → JH → Prop) (r0 : Nat) (x1 : Int32) (h : JH) : Prop :=
  r0 ≠ 0 ∧ (((jfi h 44 r0) ≤ x1 → Q (.inl none) h) ∧ (¬ (jfi h 44 r0) ≤ x1 → (jfr h 43 r0) ≠ 0 ∧ jin x1 (jln h (jfr h 43 r0)) ∧ ((jar h (jfr h 43 r0) (ixn x1)) ≠ 0 ∧ ((¬ (jfi h 95 (jar h (jfr h 43 r0) (ixn x1))) = 0 → ∃ n, L_X5_singles_27 D d Q K2 n r0 x1 (1 : Int32) h) ∧ ((jfi h 95 (jar h (jfr h 43 r0) (ixn x1))) = 0 → W_X5_singles_96 D d Q K2 r0 x1 h)))))
theorem w_X5_singles_2 {D : JD} {d : Nat} {Q : JO → JH → Prop} {K2 : Nat → Int32 → JH → Prop} {r0 : Nat} {x1 : Int32} {h : JH} (hK2 : ∀ (r0 : Nat) (x1 : Int32) (h : JH), K2 r0 x1 h → JW D (d + 1) mX5_singles 2 [some (vR 5 r0), some (vI x1), none, none] [] h Q) (w : W_X5_singles_2 D d Q K2 r0 x1 h) : JW D (d + 1) mX5_singles 2 [some (vR 5 r0), some (vI x1), none, none] [] h Q := by
  unfold W_X5_singles_2 at w
  refine jw_iload_n (pc' := 3) rfl rfl ?_
  refine jw_aload_n (pc' := 4) rfl rfl ?_
  obtain ⟨g_1, w⟩ := w
  refine jw_getI (pc' := 7) (F := 44) rfl rfl rfl rfl g_1 ?_
  refine jw_icmp_ge (tgt := 102) (pc' := 10) rfl rfl (fun c_2 => ?_) (fun c_2 => ?_)
  · replace w := w.1 c_2
    exact jw_return rfl rfl w
  · replace w := w.2 c_2
    refine jw_aload_n (pc' := 11) rfl rfl ?_
    refine jw_getR (pc' := 14) (F := 43) (t' := 82) rfl rfl rfl rfl rfl g_1 ?_
    refine jw_iload_n (pc' := 15) rfl rfl ?_
    obtain ⟨g_3, w⟩ := w
    obtain ⟨g_4, w⟩ := w
    refine jw_aald (pc' := 16) (t' := 16) rfl rfl rfl rfl g_3 g_4.ix g_4.2 ?_
    obtain ⟨g_5, w⟩ := w
    refine jw_getI (pc' := 19) (F := 95) rfl rfl rfl rfl g_5 ?_
    refine jw_if_ne (tgt := 25) (pc' := 22) rfl rfl (fun c_6 => ?_) (fun c_6 => ?_)
    · replace w := w.1 c_6
      refine jw_iconst (pc' := 26) (x := (1 : Int32)) rfl rfl ?_
      refine jw_istore_n (pc' := 27) (ls' := [some (vR 5 r0), some (vI x1), some (vI (1 : Int32)), none]) rfl (by decide) rfl ?_
      obtain ⟨n, w⟩ := w
      exact l_X5_singles_27 hK2 n _ _ _ _ w
    · replace w := w.2 c_6
      refine jw_goto (pc' := 96) rfl rfl ?_
      exact w_X5_singles_96 hK2 w
def L_X5_singles_2 (D : JD) (d : Nat) (Q : JO → JH → Prop) : Nat → Nat → Int32 → JH → Prop
  | 0 => fun _ _ _ => False
  | n + 1 => fun r0 x1 h => W_X5_singles_2 D d Q (L_X5_singles_2 D d Q n) r0 x1 h
theorem l_X5_singles_2 {D : JD} {d : Nat} {Q : JO → JH → Prop} : ∀ (n : Nat) (r0 : Nat) (x1 : Int32) (h : JH), L_X5_singles_2 D d Q n r0 x1 h → JW D (d + 1) mX5_singles 2 [some (vR 5 r0), some (vI x1), none, none] [] h Q := by
  intro n
  induction n with
  | zero => intro _ _ _ w; exact w.elim
  | succ n ih => intro _ _ h w; exact w_X5_singles_2 ih w
def W_X5_singles_0 (D : JD) (d : Nat) (Q : JO → JH → Prop) (r0 : Nat) (h : JH) : Prop :=
  ∃ n, L_X5_singles_2 D d Q n r0 (0 : Int32) h
theorem w_X5_singles_0 {D : JD} {d : Nat} {Q : JO → JH → Prop} {r0 : Nat} {h : JH} (w : W_X5_singles_0 D d Q r0 h) : JW D (d + 1) mX5_singles 0 [some (vR 5 r0), none, none, none] [] h Q := by
  unfold W_X5_singles_0 at w
  refine jw_iconst (pc' := 1) (x := (0 : Int32)) rfl rfl ?_
  refine jw_istore_n (pc' := 2) (ls' := [some (vR 5 r0), some (vI (0 : Int32)), none, none]) rfl (by decide) rfl ?_
  obtain ⟨n, w⟩ := w
  exact l_X5_singles_2 n _ _ _ w
def T_X5_singles (D : JD) (d : Nat) (Q : JO → JH → Prop) (r0 : Nat) (h : JH) : Prop := W_X5_singles_0 D d Q r0 h
theorem t_X5_singles {D : JD} {d : Nat} {Q : JO → JH → Prop} {r0 : Nat} {h : JH} (w : T_X5_singles D d Q r0 h) : cX5_singles D (d + 1) r0 h Q := by
  unfold T_X5_singles at w
  unfold cX5_singles
  exact w_X5_singles_0 w
def W_X6_init_0 (D : JD) (d : Nat) (Q : JO → JH → Prop) (r0 : Nat) (r1 : Nat) (h : JH) : Prop :=
  r0 ≠ 0 ∧ (∀ (r_2 : Nat) (h_3 : JH), r_2 = jsz h + 1 → h_3 = nwa h 141 3 → (∀ h_6 : JH, h_6 = wfr h_3 47 r0 r_2 → (∀ (r_8 : Nat) (h_9 : JH), r_8 = jsz h_6 + 1 → h_9 = nwa h_6 75 0 → (∀ h_12 : JH, h_12 = wfr h_9 49 r0 r_8 → (∀ (r_14 : Nat) (h_15 : JH), r_14 = jsz h_12 + 1 → h_15 = nwa h_12 76 0 → (∀ h_18 : JH, h_18 = wfr h_15 50 r0 r_14 → (∀ (r_20 : Nat) (h_21 : JH), r_20 = jsz h_18 + 1 → h_21 = nwa h_18 77 0 → (∀ h_24 : JH, h_24 = wfr h_21 53 r0 r_20 → (∀ (r_26 : Nat) (h_27 : JH), r_26 = jsz h_24 + 1 → h_27 = nwa h_24 142 3 → (∀ h_30 : JH, h_30 = wfr h_27 56 r0 r_26 → (∀ (r_32 : Nat) (h_33 : JH), r_32 = jsz h_30 + 1 → h_33 = nwa h_30 68 0 → (∀ h_36 : JH, h_36 = wfr h_33 57 r0 r_32 → (∀ h_38 : JH, h_38 = wfr h_36 60 r0 r1 → (Q (.inl none) h_38))))))))))))))
theorem w_X6_init_0 {D : JD} {d : Nat} {Q : JO → JH → Prop} {r0 : Nat} {r1 : Nat} {h : JH} (w : W_X6_init_0 D d Q r0 r1 h) : JW D (d + 1) mX6_init 0 [some (vR 6 r0), some (vR 68 r1)] [] h Q := by
  unfold W_X6_init_0 at w
  refine jw_aload_n (pc' := 1) rfl rfl ?_
  obtain ⟨g_1, w⟩ := w
  refine jw_obj (pc' := 4) rfl (lw_g (jtb_mem (c := 1) (i := 172) rfl) rfl) rfl g_1 ?_
  refine jw_aload_n (pc' := 5) rfl rfl ?_
  refine jw_iconst (pc' := 6) (x := (3 : Int32)) rfl rfl ?_
  refine jw_anew' (pc' := 9) (n := 3) (k := 141) rfl rfl rfl rfl rfl rfl rfl (jtb_mem (c := 1) (i := 174) rfl) ⟨by decide, rfl⟩ rfl (fun r_2 h_3 e_4 e_5 => ?_)
  replace w := w r_2 h_3 e_4 e_5
  refine jw_putR' (pc' := 12) (F := 47) rfl rfl rfl (Or.inr rfl) (Or.inr ⟨rfl, rfl⟩) rfl rfl rfl g_1 (fun h_6 e_7 => ?_)
  replace w := w h_6 e_7
  refine jw_aload_n (pc' := 13) rfl rfl ?_
  refine jw_iconst (pc' := 14) (x := (0 : Int32)) rfl rfl ?_
  refine jw_anew' (pc' := 17) (n := 0) (k := 75) rfl rfl rfl rfl rfl rfl rfl (jtb_mem (c := 1) (i := 176) rfl) ⟨by decide, rfl⟩ rfl (fun r_8 h_9 e_10 e_11 => ?_)
  replace w := w r_8 h_9 e_10 e_11
  refine jw_putR' (pc' := 20) (F := 49) rfl rfl rfl (Or.inr rfl) (Or.inl rfl) rfl rfl rfl g_1 (fun h_12 e_13 => ?_)
  replace w := w h_12 e_13
  refine jw_aload_n (pc' := 21) rfl rfl ?_
  refine jw_iconst (pc' := 22) (x := (0 : Int32)) rfl rfl ?_
  refine jw_anew' (pc' := 25) (n := 0) (k := 76) rfl rfl rfl rfl rfl rfl rfl (jtb_mem (c := 1) (i := 178) rfl) ⟨by decide, rfl⟩ rfl (fun r_14 h_15 e_16 e_17 => ?_)
  replace w := w r_14 h_15 e_16 e_17
  refine jw_putR' (pc' := 28) (F := 50) rfl rfl rfl (Or.inr rfl) (Or.inl rfl) rfl rfl rfl g_1 (fun h_18 e_19 => ?_)
  replace w := w h_18 e_19
  refine jw_aload_n (pc' := 29) rfl rfl ?_
  refine jw_iconst (pc' := 30) (x := (0 : Int32)) rfl rfl ?_
  refine jw_anew' (pc' := 33) (n := 0) (k := 77) rfl rfl rfl rfl rfl rfl rfl (jtb_mem (c := 1) (i := 180) rfl) ⟨by decide, rfl⟩ rfl (fun r_20 h_21 e_22 e_23 => ?_)
  replace w := w r_20 h_21 e_22 e_23
  refine jw_putR' (pc' := 36) (F := 53) rfl rfl rfl (Or.inr rfl) (Or.inl rfl) rfl rfl rfl g_1 (fun h_24 e_25 => ?_)
  replace w := w h_24 e_25
  refine jw_aload_n (pc' := 37) rfl rfl ?_
  refine jw_iconst (pc' := 38) (x := (3 : Int32)) rfl rfl ?_
  refine jw_anewA' (pc' := 41) (n := 3) (k := 142) rfl rfl rfl rfl rfl rfl rfl (jtb_mem (c := 1) (i := 127) rfl) ⟨by decide, rfl⟩ rfl (fun r_26 h_27 e_28 e_29 => ?_)
  replace w := w r_26 h_27 e_28 e_29
  refine jw_putR' (pc' := 44) (F := 56) rfl rfl rfl (Or.inr rfl) (Or.inr ⟨rfl, rfl⟩) rfl rfl rfl g_1 (fun h_30 e_31 => ?_)
  replace w := w h_30 e_31
  refine jw_aload_n (pc' := 45) rfl rfl ?_
  refine jw_iconst (pc' := 46) (x := (0 : Int32)) rfl rfl ?_
  refine jw_newa' (pc' := 48) (n := 0) (k := 68) rfl rfl rfl rfl rfl rfl (lw_g (jtb_mem (c := 2) (i := 11) rfl) rfl) ⟨by decide, rfl⟩ (by decide) (fun r_32 h_33 e_34 e_35 => ?_)
  replace w := w r_32 h_33 e_34 e_35
  refine jw_putR' (pc' := 51) (F := 57) rfl rfl rfl (Or.inr rfl) (Or.inl rfl) rfl rfl rfl g_1 (fun h_36 e_37 => ?_)
  replace w := w h_36 e_37
  refine jw_aload_n (pc' := 52) rfl rfl ?_
  refine jw_aload_n (pc' := 53) rfl rfl ?_
  refine jw_putR' (pc' := 56) (F := 60) rfl rfl rfl (Or.inr rfl) (Or.inr ⟨rfl, rfl⟩) rfl rfl rfl g_1 (fun h_38 e_39 => ?_)
  replace w := w h_38 e_39
  exact jw_return rfl rfl w
def T_X6_init (D : JD) (d : Nat) (Q : JO → JH → Prop) (r0 : Nat) (r1 : Nat) (h : JH) : Prop := W_X6_init_0 D d Q r0 r1 h
theorem t_X6_init {D : JD} {d : Nat} {Q : JO → JH → Prop} {r0 : Nat} {r1 : Nat} {h : JH} (w : T_X6_init D d Q r0 r1 h) : cX6_init D (d + 1) r0 r1 h Q := by
  unfold T_X6_init at w
  unfold cX6_init
  exact w_X6_init_0 w
def W_X6_clear_0 (D : JD) (d : Nat) (Q : JO → JH → Prop) (r0 : Nat) (h : JH) : Prop :=
  r0 ≠ 0 ∧ ∀ h_2 : JH, h_2 = wfi h 48 r0 (0 : Int32) → (∀ h_4 : JH, h_4 = wfi h_2 51 r0 (0 : Int32) → (∀ h_6 : JH, h_6 = wfi h_4 52 r0 (0 : Int32) → (∀ h_8 : JH, h_8 = wfi h_6 54 r0 (0 : Int32) → (∀ h_10 : JH, h_10 = wfi h_8 55 r0 (0 : Int32) → (∀ h_12 : JH, h_12 = wfi h_10 58 r0 (0 : Int32) → (Q (.inl none) h_12))))))
theorem w_X6_clear_0 {D : JD} {d : Nat} {Q : JO → JH → Prop} {r0 : Nat} {h : JH} (w : W_X6_clear_0 D d Q r0 h) : JW D (d + 1) mX6_clear 0 [some (vR 6 r0)] [] h Q := by
  unfold W_X6_clear_0 at w
  refine jw_aload_n (pc' := 1) rfl rfl ?_
  refine jw_iconst (pc' := 2) (x := (0 : Int32)) rfl rfl ?_
  obtain ⟨g_1, w⟩ := w
  refine jw_putI' (pc' := 5) (F := 48) rfl rfl rfl (Or.inr rfl) (Or.inl rfl) rfl (rfl) (rfl) rfl g_1 (fun h_2 e_3 => ?_)
  replace w := w h_2 e_3
  refine jw_aload_n (pc' := 6) rfl rfl ?_
  refine jw_iconst (pc' := 7) (x := (0 : Int32)) rfl rfl ?_
  refine jw_putI' (pc' := 10) (F := 51) rfl rfl rfl (Or.inr rfl) (Or.inl rfl) rfl (rfl) (rfl) rfl g_1 (fun h_4 e_5 => ?_)
  replace w := w h_4 e_5
  refine jw_aload_n (pc' := 11) rfl rfl ?_
  refine jw_iconst (pc' := 12) (x := (0 : Int32)) rfl rfl ?_
  refine jw_putI' (pc' := 15) (F := 52) rfl rfl rfl (Or.inr rfl) (Or.inl rfl) rfl (rfl) (rfl) rfl g_1 (fun h_6 e_7 => ?_)
  replace w := w h_6 e_7
  refine jw_aload_n (pc' := 16) rfl rfl ?_
  refine jw_iconst (pc' := 17) (x := (0 : Int32)) rfl rfl ?_
  refine jw_putI' (pc' := 20) (F := 54) rfl rfl rfl (Or.inr rfl) (Or.inl rfl) rfl (rfl) (rfl) rfl g_1 (fun h_8 e_9 => ?_)
  replace w := w h_8 e_9
  refine jw_aload_n (pc' := 21) rfl rfl ?_
  refine jw_iconst (pc' := 22) (x := (0 : Int32)) rfl rfl ?_
  refine jw_putI' (pc' := 25) (F := 55) rfl rfl rfl (Or.inr rfl) (Or.inl rfl) rfl (rfl) (rfl) rfl g_1 (fun h_10 e_11 => ?_)
  replace w := w h_10 e_11
  refine jw_aload_n (pc' := 26) rfl rfl ?_
  refine jw_iconst (pc' := 27) (x := (0 : Int32)) rfl rfl ?_
  refine jw_putI' (pc' := 30) (F := 58) rfl rfl rfl (Or.inr rfl) (Or.inl rfl) rfl (rfl) (rfl) rfl g_1 (fun h_12 e_13 => ?_)
  replace w := w h_12 e_13
  exact jw_return rfl rfl w
def T_X6_clear (D : JD) (d : Nat) (Q : JO → JH → Prop) (r0 : Nat) (h : JH) : Prop := W_X6_clear_0 D d Q r0 h
theorem t_X6_clear {D : JD} {d : Nat} {Q : JO → JH → Prop} {r0 : Nat} {h : JH} (w : T_X6_clear D d Q r0 h) : cX6_clear D (d + 1) r0 h Q := by
  unfold T_X6_clear at w
  unfold cX6_clear
  exact w_X6_clear_0 w
def W_X6_take_47 (D : JD) (d : Nat) (Q : JO → JH → Prop) (K2 : Nat → Int32 → Int32 → JH → Prop) (r0 : Nat) (x1 : Int32) (x2 : Int32) (q0 : Nat) (s1 : Int32) (q2 : Nat) (h : JH) : Prop :=
  q0 ≠ 0 ∧ jin s1 (jln h q0) ∧ ∀ h_3 : JH, h_3 = war h q0 (ixn s1) q2 → (K2 r0 x1 (x2 + (1 : Int32)) h_3)
theorem w_X6_take_47 {D : JD} {d : Nat} {Q : JO → JH → Prop} {K2 : Nat → Int32 → Int32 → JH → Prop} {r0 : Nat} {x1 : Int32} {x2 : Int32} {q0 : Nat} {s1 : Int32} {q2 : Nat} {h : JH} (hK2 : ∀ (r0 : Nat) (x1 : Int32) (x2 : Int32) (h : JH), K2 r0 x1 x2 h → JW D (d + 1) mX6_take 2 [some (vR 6 r0), some (vI x1), some (vI x2), none] [] h Q) (w : W_X6_take_47 D d Q K2 r0 x1 x2 q0 s1 q2 h) : JW D (d + 1) mX6_take 47 [some (vR 6 r0), some (vI x1), some (vI x2), none] [vR 76 q2, vI s1, vR 142 q0] h Q := by
  unfold W_X6_take_47 at w
  obtain ⟨g_1, w⟩ := w
  obtain ⟨g_2, w⟩ := w
  refine jw_aast' (pc' := 48) rfl rfl rfl rfl rfl rfl g_1 g_2 (fun h_3 e_4 => ?_)
  replace w := w h_3 e_4
  refine jw_iinc (pc' := 51) (y := x2 + (1 : Int32)) (ls' := [some (vR 6 r0), some (vI x1), some (vI (x2 + (1 : Int32))), none]) rfl (by decide) rfl rfl rfl ?_
  refine jw_goto (pc' := 2) rfl rfl ?_
  exact hK2 _ _ _ _ w
def W_X6_take_2 (D : JD) (d : Nat) (Q : JO → JH → Prop) (K2 : Nat → Int32 → Int32 → JH → Prop) (r0 : Nat) (x1 : Int32) (x2 : Int32) (h : JH) : Prop :=
  r0 ≠ 0 ∧ (((jfi h 48 r0) ≤ x2 → Q (.inl none) h) ∧ (¬ (jfi h 48 r0) ≤ x2 → (jfr h 60 r0) ≠ 0 ∧ jin (((3 : Int32) * x1) + x2) (jln h (jfr h 60 r0)) ∧ ((0 ≤ (jai h (jfr h 60 r0) (ixn (((3 : Int32) * x1) + x2))) → (jfr h 47 r0) ≠ 0 ∧ jin x2 (jln h (jfr h 47 r0)) ∧ ((jar h (jfr h 47 r0) (ixn x2)) ≠ 0 ∧ ((jfr h 138 (jar h (jfr h 47 r0) (ixn x2))) ≠ 0 ∧ (cX5_row D d (jfr h 138 (jar h (jfr h 47 r0) (ixn x2))) (jai h (jfr h 60 r0) (ixn (((3 : Int32) * x1) + x2))) h (pR D h 76 (fun v_12 h_10 => W_X6_take_47 D d Q K2 r0 x1 x2 (jfr h 56 r0) x2 v_12 h_10) (jth Q)))))) ∧ (¬ 0 ≤ (jai h (jfr h 60 r0) (ixn (((3 : Int32) * x1) + x2))) → W_X6_take_47 D d Q K2 r0 x1 x2 (jfr h 56 r0) x2 0 h))))
theorem w_X6_take_2 {D : JD} {d : Nat} {Q : JO → JH → Prop} {K2 : Nat → Int32 → Int32 → JH → Prop} {r0 : Nat} {x1 : Int32} {x2 : Int32} {h : JH} (hK2 : ∀ (r0 : Nat) (x1 : Int32) (x2 : Int32) (h : JH), K2 r0 x1 x2 h → JW D (d + 1) mX6_take 2 [some (vR 6 r0), some (vI x1), some (vI x2), none] [] h Q) (w : W_X6_take_2 D d Q K2 r0 x1 x2 h) : JW D (d + 1) mX6_take 2 [some (vR 6 r0), some (vI x1), some (vI x2), none] [] h Q := by
  unfold W_X6_take_2 at w
  refine jw_iload_n (pc' := 3) rfl rfl ?_
  refine jw_aload_n (pc' := 4) rfl rfl ?_
  obtain ⟨g_1, w⟩ := w
  refine jw_getI (pc' := 7) (F := 48) rfl rfl rfl rfl g_1 ?_
  refine jw_icmp_ge (tgt := 54) (pc' := 10) rfl rfl (fun c_2 => ?_) (fun c_2 => ?_)
  · replace w := w.1 c_2
    exact jw_return rfl rfl w
  · replace w := w.2 c_2
    refine jw_aload_n (pc' := 11) rfl rfl ?_
    refine jw_getR (pc' := 14) (F := 60) (t' := 68) rfl rfl rfl rfl rfl g_1 ?_
    refine jw_iconst (pc' := 15) (x := (3 : Int32)) rfl rfl ?_
    refine jw_iload_n (pc' := 16) rfl rfl ?_
    refine jw_imul (pc' := 17) rfl ?_
    refine jw_iload_n (pc' := 18) rfl rfl ?_
    refine jw_iadd (pc' := 19) rfl ?_
    obtain ⟨g_3, w⟩ := w
    obtain ⟨g_4, w⟩ := w
    refine jw_iald (pc' := 20) rfl rfl rfl rfl g_3 g_4.ix g_4.2 ?_
    refine jw_istore_n (pc' := 21) (ls' := [some (vR 6 r0), some (vI x1), some (vI x2), some (vI (jai h (jfr h 60 r0) (ixn (((3 : Int32) * x1) + x2))))]) rfl (by decide) rfl ?_
    refine jw_aload_n (pc' := 22) rfl rfl ?_
    refine jw_getR (pc' := 25) (F := 56) (t' := 142) rfl rfl rfl rfl rfl g_1 ?_
    refine jw_iload_n (pc' := 26) rfl rfl ?_
    refine jw_iload_n (pc' := 27) rfl rfl ?_
    refine jw_if_ge (tgt := 34) (pc' := 30) rfl rfl (fun c_5 => ?_) (fun c_5 => ?_)
    · replace w := w.1 c_5
      refine jw_aload_n (pc' := 35) rfl rfl ?_
      refine jw_getR (pc' := 38) (F := 47) (t' := 141) rfl rfl rfl rfl rfl g_1 ?_
      refine jw_iload_n (pc' := 39) rfl rfl ?_
      obtain ⟨g_6, w⟩ := w
      obtain ⟨g_7, w⟩ := w
      refine jw_aald (pc' := 40) (t' := 31) rfl rfl rfl rfl g_6 g_7.ix g_7.2 ?_
      obtain ⟨g_8, w⟩ := w
      refine jw_getR (pc' := 43) (F := 138) (t' := 5) rfl rfl rfl rfl rfl g_8 ?_
      refine jw_iload_n (pc' := 44) rfl rfl ?_
      obtain ⟨g_9, w⟩ := w
      refine jw_cR (st := [vI x2, vR 142 (jfr h 56 r0)]) (sa := [vR 5 (jfr h 138 (jar h (jfr h 47 r0) (ixn x2))), vI (jai h (jfr h 60 r0) (ixn (((3 : Int32) * x1) + x2)))]) okX5_row rfl rfl rfl rfl rfl rfl (jstp_virtual (sa := [vI (jai h (jfr h 60 r0) (ixn (((3 : Int32) * x1) + x2)))]) (st := [vI x2, vR 142 (jfr h 56 r0)]) (k := 0) rfl rfl sX5_row okX5_row g_9 (one5.k g_9) rfl rfl) w (fun v_12 h_10 _ _ _ w => ?_)
      refine jw_gen (ls' := [some (vR 6 r0), some (vI x1), some (vI x2), none]) (st' := [vR 76 v_12, vI x2, vR 142 (jfr h 56 r0)]) (And.intro (Or.inl rfl) (And.intro (Or.inl rfl) (And.intro (Or.inl rfl) (trivial)))) (And.intro (Or.inl rfl) (And.intro (Or.inl rfl) (And.intro (Or.inl rfl) (trivial)))) ?_
      exact w_X6_take_47 hK2 w
    · replace w := w.2 c_5
      refine jw_null (pc' := 31) (t := 76) rfl ?_
      refine jw_goto (pc' := 47) rfl rfl ?_
      refine jw_gen (ls' := [some (vR 6 r0), some (vI x1), some (vI x2), none]) (st' := [vR 76 0, vI x2, vR 142 (jfr h 56 r0)]) (And.intro (Or.inl rfl) (And.intro (Or.inl rfl) (And.intro (Or.inl rfl) (trivial)))) (And.intro (Or.inl rfl) (And.intro (Or.inl rfl) (And.intro (Or.inl rfl) (trivial)))) ?_
      exact w_X6_take_47 hK2 w
def L_X6_take_2 (D : JD) (d : Nat) (Q : JO → JH → Prop) : Nat → Nat → Int32 → Int32 → JH → Prop
  | 0 => fun _ _ _ _ => False
  | n + 1 => fun r0 x1 x2 h => W_X6_take_2 D d Q (L_X6_take_2 D d Q n) r0 x1 x2 h
theorem l_X6_take_2 {D : JD} {d : Nat} {Q : JO → JH → Prop} : ∀ (n : Nat) (r0 : Nat) (x1 : Int32) (x2 : Int32) (h : JH), L_X6_take_2 D d Q n r0 x1 x2 h → JW D (d + 1) mX6_take 2 [some (vR 6 r0), some (vI x1), some (vI x2), none] [] h Q := by
  intro n
  induction n with
  | zero => intro _ _ _ _ w; exact w.elim
  | succ n ih => intro _ _ _ h w; exact w_X6_take_2 ih w
def W_X6_take_0 (D : JD) (d : Nat) (Q : JO → JH → Prop) (r0 : Nat) (x1 : Int32) (h : JH) : Prop :=
  ∃ n, L_X6_take_2 D d Q n r0 x1 (0 : Int32) h
theorem w_X6_take_0 {D : JD} {d : Nat} {Q : JO → JH → Prop} {r0 : Nat} {x1 : Int32} {h : JH} (w : W_X6_take_0 D d Q r0 x1 h) : JW D (d + 1) mX6_take 0 [some (vR 6 r0), some (vI x1), none, none] [] h Q := by
  unfold W_X6_take_0 at w
  refine jw_iconst (pc' := 1) (x := (0 : Int32)) rfl rfl ?_
  refine jw_istore_n (pc' := 2) (ls' := [some (vR 6 r0), some (vI x1), some (vI (0 : Int32)), none]) rfl (by decide) rfl ?_
  obtain ⟨n, w⟩ := w
  exact l_X6_take_2 n _ _ _ _ w
def T_X6_take (D : JD) (d : Nat) (Q : JO → JH → Prop) (r0 : Nat) (x1 : Int32) (h : JH) : Prop := W_X6_take_0 D d Q r0 x1 h
theorem t_X6_take {D : JD} {d : Nat} {Q : JO → JH → Prop} {r0 : Nat} {x1 : Int32} {h : JH} (w : T_X6_take D d Q r0 x1 h) : cX6_take D (d + 1) r0 x1 h Q := by
  unfold T_X6_take at w
  unfold cX6_take
  exact w_X6_take_0 w
def W_X7_init_0 (D : JD) (d : Nat) (Q : JO → JH → Prop) (r0 : Nat) (h : JH) : Prop :=
  r0 ≠ 0 ∧ (∀ (r_2 : Nat) (h_3 : JH), r_2 = jsz h + 1 → h_3 = nwo h 113 3 → (cX2_init D d r_2 (24000 : Int32) h_3 (pV D h_3 (fun h_6 => ∀ h_9 : JH, h_9 = wfr h_6 61 r0 r_2 → (∀ (r_11 : Nat) (h_12 : JH), r_11 = jsz h_9 + 1 → h_12 = nwa h_9 143 201 → (∀ h_15 : JH, h_15 = wfr h_12 62 r0 r_11 → (Q (.inl none) h_15)))) (jth Q))))
theorem w_X7_init_0 {D : JD} {d : Nat} {Q : JO → JH → Prop} {r0 : Nat} {h : JH} (w : W_X7_init_0 D d Q r0 h) : JW D (d + 1) mX7_init 0 [some (vR 7 r0)] [] h Q := by
  unfold W_X7_init_0 at w
  refine jw_aload_n (pc' := 1) rfl rfl ?_
  obtain ⟨g_1, w⟩ := w
  refine jw_obj (pc' := 4) rfl (lw_g (jtb_mem (c := 2) (i := 18) rfl) rfl) rfl g_1 ?_
  refine jw_aload_n (pc' := 5) rfl rfl ?_
  refine jw_new' (pc' := 8) (k := 113) (n := 3) rfl rfl rfl rfl rfl rfl rfl (fun r_2 h_3 e_4 e_5 => ?_)
  replace w := w r_2 h_3 e_4 e_5
  refine jw_dup (pc' := 9) rfl rfl ?_
  refine jw_sipush (pc' := 12) (x := (24000 : Int32)) rfl rfl ?_
  refine jw_cV (st := [vR 113 r_2, vR 7 r0]) (sa := [vR 113 r_2, vI (24000 : Int32)]) okX2_init rfl rfl rfl rfl rfl rfl (jstp_init (sa := [vI (24000 : Int32)]) (st := [vR 113 r_2, vR 7 r0]) rfl rfl sX2_init okX2_init (lw_g (jtb_mem (c := 1) (i := 87) rfl) rfl) (jnz e_4) rfl rfl) w (fun h_6 _ _ w => ?_)
  refine jw_putR' (pc' := 18) (F := 61) rfl rfl rfl (Or.inr rfl) (Or.inr ⟨rfl, rfl⟩) rfl rfl rfl g_1 (fun h_9 e_10 => ?_)
  replace w := w h_9 e_10
  refine jw_aload_n (pc' := 19) rfl rfl ?_
  refine jw_sipush (pc' := 22) (x := (201 : Int32)) rfl rfl ?_
  refine jw_newa' (pc' := 24) (n := 201) (k := 143) rfl rfl rfl rfl rfl rfl (lw_g (jtb_mem (c := 2) (i := 11) rfl) rfl) ⟨by decide, rfl⟩ (by decide) (fun r_11 h_12 e_13 e_14 => ?_)
  replace w := w r_11 h_12 e_13 e_14
  refine jw_putR' (pc' := 27) (F := 62) rfl rfl rfl (Or.inr rfl) (Or.inr ⟨rfl, rfl⟩) rfl rfl rfl g_1 (fun h_15 e_16 => ?_)
  replace w := w h_15 e_16
  exact jw_return rfl rfl w
def T_X7_init (D : JD) (d : Nat) (Q : JO → JH → Prop) (r0 : Nat) (h : JH) : Prop := W_X7_init_0 D d Q r0 h
theorem t_X7_init {D : JD} {d : Nat} {Q : JO → JH → Prop} {r0 : Nat} {h : JH} (w : T_X7_init D d Q r0 h) : cX7_init D (d + 1) r0 h Q := by
  unfold T_X7_init at w
  unfold cX7_init
  exact w_X7_init_0 w
def W_X7_clear_0 (D : JD) (d : Nat) (Q : JO → JH → Prop) (r0 : Nat) (h : JH) : Prop :=
  r0 ≠ 0 ∧ ((jfr h 61 r0) ≠ 0 ∧ (cX2_clear D d (jfr h 61 r0) h (pV D h (fun h_3 => ∀ h_6 : JH, h_6 = wfi h_3 63 r0 (0 : Int32) → ((jfr h_6 62 r0) ≠ 0 ∧ jin (0 : Int32) (jln h_6 (jfr h_6 62 r0)) ∧ ∀ h_10 : JH, h_10 = wai h_6 (jfr h_6 62 r0) (ixn (0 : Int32)) (0 : Int32) → (Q (.inl none) h_10))) (jth Q))))
theorem w_X7_clear_0 {D : JD} {d : Nat} {Q : JO → JH → Prop} {r0 : Nat} {h : JH} (w : W_X7_clear_0 D d Q r0 h) : JW D (d + 1) mX7_clear 0 [some (vR 7 r0)] [] h Q := by
  unfold W_X7_clear_0 at w
  refine jw_aload_n (pc' := 1) rfl rfl ?_
  obtain ⟨g_1, w⟩ := w
  refine jw_getR (pc' := 4) (F := 61) (t' := 113) rfl rfl rfl rfl rfl g_1 ?_
  obtain ⟨g_2, w⟩ := w
  refine jw_cV (st := []) (sa := [vR 113 (jfr h 61 r0)]) okX2_clear rfl rfl rfl rfl rfl rfl (jstp_virtual (sa := []) (st := []) (k := 0) rfl rfl sX2_clear okX2_clear g_2 (one113.k g_2) rfl rfl) w (fun h_3 _ _ w => ?_)
  refine jw_aload_n (pc' := 8) rfl rfl ?_
  refine jw_iconst (pc' := 9) (x := (0 : Int32)) rfl rfl ?_
  refine jw_putI' (pc' := 12) (F := 63) rfl rfl rfl (Or.inr rfl) (Or.inl rfl) rfl (rfl) (rfl) rfl g_1 (fun h_6 e_7 => ?_)
  replace w := w h_6 e_7
  refine jw_aload_n (pc' := 13) rfl rfl ?_
  refine jw_getR (pc' := 16) (F := 62) (t' := 143) rfl rfl rfl rfl rfl g_1 ?_
  refine jw_iconst (pc' := 17) (x := (0 : Int32)) rfl rfl ?_
  refine jw_iconst (pc' := 18) (x := (0 : Int32)) rfl rfl ?_
  obtain ⟨g_8, w⟩ := w
  obtain ⟨g_9, w⟩ := w
  refine jw_iast' (pc' := 19) rfl rfl rfl rfl rfl g_8 g_9 (fun h_10 e_11 => ?_)
  replace w := w h_10 e_11
  exact jw_return rfl rfl w
def T_X7_clear (D : JD) (d : Nat) (Q : JO → JH → Prop) (r0 : Nat) (h : JH) : Prop := W_X7_clear_0 D d Q r0 h
theorem t_X7_clear {D : JD} {d : Nat} {Q : JO → JH → Prop} {r0 : Nat} {h : JH} (w : T_X7_clear D d Q r0 h) : cX7_clear D (d + 1) r0 h Q := by
  unfold T_X7_clear at w
  unfold cX7_clear
  exact w_X7_clear_0 w
def W_X7_end_0 (D : JD) (d : Nat) (Q : JO → JH → Prop) (r0 : Nat) (h : JH) : Prop :=
  r0 ≠ 0 ∧ (∀ h_2 : JH, h_2 = wfi h 63 r0 ((jfi h 63 r0) + (1 : Int32)) → ((jfr h_2 61 r0) ≠ 0 ∧ ((jfr h_2 62 r0) ≠ 0 ∧ jin (jfi h_2 63 r0) (jln h_2 (jfr h_2 62 r0)) ∧ ∀ h_7 : JH, h_7 = wai h_2 (jfr h_2 62 r0) (ixn (jfi h_2 63 r0)) (jfi h_2 18 (jfr h_2 61 r0)) → (Q (.inl none) h_7))))
theorem w_X7_end_0 {D : JD} {d : Nat} {Q : JO → JH → Prop} {r0 : Nat} {h : JH} (w : W_X7_end_0 D d Q r0 h) : JW D (d + 1) mX7_end 0 [some (vR 7 r0)] [] h Q := by
  unfold W_X7_end_0 at w
  refine jw_aload_n (pc' := 1) rfl rfl ?_
  refine jw_dup (pc' := 2) rfl rfl ?_
  obtain ⟨g_1, w⟩ := w
  refine jw_getI (pc' := 5) (F := 63) rfl rfl rfl rfl g_1 ?_
  refine jw_iconst (pc' := 6) (x := (1 : Int32)) rfl rfl ?_
  refine jw_iadd (pc' := 7) rfl ?_
  refine jw_putI' (pc' := 10) (F := 63) rfl rfl rfl (Or.inr rfl) (Or.inl rfl) rfl (rfl) (rfl) rfl g_1 (fun h_2 e_3 => ?_)
  replace w := w h_2 e_3
  refine jw_aload_n (pc' := 11) rfl rfl ?_
  refine jw_getR (pc' := 14) (F := 62) (t' := 143) rfl rfl rfl rfl rfl g_1 ?_
  refine jw_aload_n (pc' := 15) rfl rfl ?_
  refine jw_getI (pc' := 18) (F := 63) rfl rfl rfl rfl g_1 ?_
  refine jw_aload_n (pc' := 19) rfl rfl ?_
  refine jw_getR (pc' := 22) (F := 61) (t' := 113) rfl rfl rfl rfl rfl g_1 ?_
  obtain ⟨g_4, w⟩ := w
  refine jw_getI (pc' := 25) (F := 18) rfl rfl rfl rfl g_4 ?_
  obtain ⟨g_5, w⟩ := w
  obtain ⟨g_6, w⟩ := w
  refine jw_iast' (pc' := 26) rfl rfl rfl rfl rfl g_5 g_6 (fun h_7 e_8 => ?_)
  replace w := w h_7 e_8
  exact jw_return rfl rfl w
def T_X7_end (D : JD) (d : Nat) (Q : JO → JH → Prop) (r0 : Nat) (h : JH) : Prop := W_X7_end_0 D d Q r0 h
theorem t_X7_end {D : JD} {d : Nat} {Q : JO → JH → Prop} {r0 : Nat} {h : JH} (w : T_X7_end D d Q r0 h) : cX7_end D (d + 1) r0 h Q := by
  unfold T_X7_end at w
  unfold cX7_end
  exact w_X7_end_0 w
def W_X7_send_0 (D : JD) (d : Nat) (Q : JO → JH → Prop) (r0 : Nat) (x1 : Int32) (r2 : Nat) (h : JH) : Prop :=
  r0 ≠ 0 ∧ ((jfr h 61 r0) ≠ 0 ∧ ((jfr h 62 r0) ≠ 0 ∧ jin x1 (jln h (jfr h 62 r0)) ∧ (jin (x1 + (1 : Int32)) (jln h (jfr h 62 r0)) ∧ (jin x1 (jln h (jfr h 62 r0)) ∧ (r2 ≠ 0 ∧ (cX2_copy D d r2 (jfr h 17 (jfr h 61 r0)) (jai h (jfr h 62 r0) (ixn x1)) ((jai h (jfr h 62 r0) (ixn (x1 + (1 : Int32)))) - (jai h (jfr h 62 r0) (ixn x1))) h (pV D h (fun h_8 => Q (.inl none) h_8) (jth Q))))))))
theorem w_X7_send_0 {D : JD} {d : Nat} {Q : JO → JH → Prop} {r0 : Nat} {x1 : Int32} {r2 : Nat} {h : JH} (w : W_X7_send_0 D d Q r0 x1 r2 h) : JW D (d + 1) mX7_send 0 [some (vR 7 r0), some (vI x1), some (vR 2 r2)] [] h Q := by
  unfold W_X7_send_0 at w
  refine jw_aload_n (pc' := 1) rfl rfl ?_
  refine jw_aload_n (pc' := 2) rfl rfl ?_
  obtain ⟨g_1, w⟩ := w
  refine jw_getR (pc' := 5) (F := 61) (t' := 113) rfl rfl rfl rfl rfl g_1 ?_
  obtain ⟨g_2, w⟩ := w
  refine jw_getR (pc' := 8) (F := 17) (t' := 127) rfl rfl rfl rfl rfl g_2 ?_
  refine jw_aload_n (pc' := 9) rfl rfl ?_
  refine jw_getR (pc' := 12) (F := 62) (t' := 143) rfl rfl rfl rfl rfl g_1 ?_
  refine jw_iload_n (pc' := 13) rfl rfl ?_
  obtain ⟨g_3, w⟩ := w
  obtain ⟨g_4, w⟩ := w
  refine jw_iald (pc' := 14) rfl rfl rfl rfl g_3 g_4.ix g_4.2 ?_
  refine jw_aload_n (pc' := 15) rfl rfl ?_
  refine jw_getR (pc' := 18) (F := 62) (t' := 143) rfl rfl rfl rfl rfl g_1 ?_
  refine jw_iload_n (pc' := 19) rfl rfl ?_
  refine jw_iconst (pc' := 20) (x := (1 : Int32)) rfl rfl ?_
  refine jw_iadd (pc' := 21) rfl ?_
  obtain ⟨g_5, w⟩ := w
  refine jw_iald (pc' := 22) rfl rfl rfl rfl g_3 g_5.ix g_5.2 ?_
  refine jw_aload_n (pc' := 23) rfl rfl ?_
  refine jw_getR (pc' := 26) (F := 62) (t' := 143) rfl rfl rfl rfl rfl g_1 ?_
  refine jw_iload_n (pc' := 27) rfl rfl ?_
  obtain ⟨g_6, w⟩ := w
  refine jw_iald (pc' := 28) rfl rfl rfl rfl g_3 g_6.ix g_6.2 ?_
  refine jw_isub (pc' := 29) rfl ?_
  obtain ⟨g_7, w⟩ := w
  refine jw_cV (st := []) (sa := [vR 2 r2, vR 127 (jfr h 17 (jfr h 61 r0)), vI (jai h (jfr h 62 r0) (ixn x1)), vI ((jai h (jfr h 62 r0) (ixn (x1 + (1 : Int32)))) - (jai h (jfr h 62 r0) (ixn x1)))]) okX2_copy rfl rfl rfl rfl rfl rfl (jstp_virtual (sa := [vR 127 (jfr h 17 (jfr h 61 r0)), vI (jai h (jfr h 62 r0) (ixn x1)), vI ((jai h (jfr h 62 r0) (ixn (x1 + (1 : Int32)))) - (jai h (jfr h 62 r0) (ixn x1)))]) (st := []) (k := 0) rfl rfl sX2_copy okX2_copy g_7 (one2.k g_7) rfl rfl) w (fun h_8 _ _ w => ?_)
  exact jw_return rfl rfl w
def T_X7_send (D : JD) (d : Nat) (Q : JO → JH → Prop) (r0 : Nat) (x1 : Int32) (r2 : Nat) (h : JH) : Prop := W_X7_send_0 D d Q r0 x1 r2 h
theorem t_X7_send {D : JD} {d : Nat} {Q : JO → JH → Prop} {r0 : Nat} {x1 : Int32} {r2 : Nat} {h : JH} (w : T_X7_send D d Q r0 x1 r2 h) : cX7_send D (d + 1) r0 x1 r2 h Q := by
  unfold T_X7_send at w
  unfold cX7_send
  exact w_X7_send_0 w
def W_X7_copy_36 (D : JD) (d : Nat) (Q : JO → JH → Prop) (K36 : Nat → Nat → Int32 → JH → Prop) (r0 : Nat) (r1 : Nat) (x2 : Int32) (h : JH) : Prop :=
  r0 ≠ 0 ∧ (((jfi h 63 r0) < x2 → Q (.inl none) h) ∧ (¬ (jfi h 63 r0) < x2 → r1 ≠ 0 ∧ ((jfr h 62 r1) ≠ 0 ∧ jin x2 (jln h (jfr h 62 r1)) ∧ ((jfr h 62 r0) ≠ 0 ∧ jin x2 (jln h (jfr h 62 r0)) ∧ ∀ h_8 : JH, h_8 = wai h (jfr h 62 r0) (ixn x2) (jai h (jfr h 62 r1) (ixn x2)) → (K36 r0 r1 (x2 + (1 : Int32)) h_8)))))
theorem w_X7_copy_36 {D : JD} {d : Nat} {Q : JO → JH → Prop} {K36 : Nat → Nat → Int32 → JH → Prop} {r0 : Nat} {r1 : Nat} {x2 : Int32} {h : JH} (hK36 : ∀ (r0 : Nat) (r1 : Nat) (x2 : Int32) (h : JH), K36 r0 r1 x2 h → JW D (d + 1) mX7_copy 36 [some (vR 7 r0), some (vR 7 r1), some (vI x2)] [] h Q) (w : W_X7_copy_36 D d Q K36 r0 r1 x2 h) : JW D (d + 1) mX7_copy 36 [some (vR 7 r0), some (vR 7 r1), some (vI x2)] [] h Q := by
  unfold W_X7_copy_36 at w
  refine jw_iload_n (pc' := 37) rfl rfl ?_
  refine jw_aload_n (pc' := 38) rfl rfl ?_
  obtain ⟨g_1, w⟩ := w
  refine jw_getI (pc' := 41) (F := 63) rfl rfl rfl rfl g_1 ?_
  refine jw_icmp_gt (tgt := 62) (pc' := 44) rfl rfl (fun c_2 => ?_) (fun c_2 => ?_)
  · replace w := w.1 c_2
    exact jw_return rfl rfl w
  · replace w := w.2 c_2
    refine jw_aload_n (pc' := 45) rfl rfl ?_
    refine jw_getR (pc' := 48) (F := 62) (t' := 143) rfl rfl rfl rfl rfl g_1 ?_
    refine jw_iload_n (pc' := 49) rfl rfl ?_
    refine jw_aload_n (pc' := 50) rfl rfl ?_
    obtain ⟨g_3, w⟩ := w
    refine jw_getR (pc' := 53) (F := 62) (t' := 143) rfl rfl rfl rfl rfl g_3 ?_
    refine jw_iload_n (pc' := 54) rfl rfl ?_
    obtain ⟨g_4, w⟩ := w
    obtain ⟨g_5, w⟩ := w
    refine jw_iald (pc' := 55) rfl rfl rfl rfl g_4 g_5.ix g_5.2 ?_
    obtain ⟨g_6, w⟩ := w
    obtain ⟨g_7, w⟩ := w
    refine jw_iast' (pc' := 56) rfl rfl rfl rfl rfl g_6 g_7 (fun h_8 e_9 => ?_)
    replace w := w h_8 e_9
    refine jw_iinc (pc' := 59) (y := x2 + (1 : Int32)) (ls' := [some (vR 7 r0), some (vR 7 r1), some (vI (x2 + (1 : Int32)))]) rfl (by decide) rfl rfl rfl ?_
    refine jw_goto (pc' := 36) rfl rfl ?_
    exact hK36 _ _ _ _ w
def L_X7_copy_36 (D : JD) (d : Nat) (Q : JO → JH → Prop) : Nat → Nat → Nat → Int32 → JH → Prop
  | 0 => fun _ _ _ _ => False
  | n + 1 => fun r0 r1 x2 h => W_X7_copy_36 D d Q (L_X7_copy_36 D d Q n) r0 r1 x2 h
theorem l_X7_copy_36 {D : JD} {d : Nat} {Q : JO → JH → Prop} : ∀ (n : Nat) (r0 : Nat) (r1 : Nat) (x2 : Int32) (h : JH), L_X7_copy_36 D d Q n r0 r1 x2 h → JW D (d + 1) mX7_copy 36 [some (vR 7 r0), some (vR 7 r1), some (vI x2)] [] h Q := by
  intro n
  induction n with
  | zero => intro _ _ _ _ w; exact w.elim
  | succ n ih => intro _ _ _ h w; exact w_X7_copy_36 ih w
def W_X7_copy_0 (D : JD) (d : Nat) (Q : JO → JH → Prop) (r0 : Nat) (r1 : Nat) (h : JH) : Prop :=
  r0 ≠ 0 ∧ (cX7_clear D d r0 h (pV D h (fun h_2 => r1 ≠ 0 ∧ ((jfr h_2 61 r1) ≠ 0 ∧ ((jfr h_2 61 r0) ≠ 0 ∧ (cX2_copy D d (jfr h_2 61 r0) (jfr h_2 17 (jfr h_2 61 r1)) (0 : Int32) (jfi h_2 18 (jfr h_2 61 r1)) h_2 (pV D h_2 (fun h_8 => ∀ h_11 : JH, h_11 = wfi h_8 63 r0 (jfi h_8 63 r1) → (∃ n, L_X7_copy_36 D d Q n r0 r1 (0 : Int32) h_11)) (jth Q)))))) (jth Q)))
theorem w_X7_copy_0 {D : JD} {d : Nat} {Q : JO → JH → Prop} {r0 : Nat} {r1 : Nat} {h : JH} (w : W_X7_copy_0 D d Q r0 r1 h) : JW D (d + 1) mX7_copy 0 [some (vR 7 r0), some (vR 7 r1), none] [] h Q := by
  unfold W_X7_copy_0 at w
  refine jw_aload_n (pc' := 1) rfl rfl ?_
  obtain ⟨g_1, w⟩ := w
  refine jw_cV (st := []) (sa := [vR 7 r0]) okX7_clear rfl rfl rfl rfl rfl rfl (jstp_virtual (sa := []) (st := []) (k := 0) rfl rfl sX7_clear okX7_clear g_1 (one7.k g_1) rfl rfl) w (fun h_2 _ _ w => ?_)
  refine jw_aload_n (pc' := 5) rfl rfl ?_
  refine jw_getR (pc' := 8) (F := 61) (t' := 113) rfl rfl rfl rfl rfl g_1 ?_
  refine jw_aload_n (pc' := 9) rfl rfl ?_
  obtain ⟨g_5, w⟩ := w
  refine jw_getR (pc' := 12) (F := 61) (t' := 113) rfl rfl rfl rfl rfl g_5 ?_
  obtain ⟨g_6, w⟩ := w
  refine jw_getR (pc' := 15) (F := 17) (t' := 127) rfl rfl rfl rfl rfl g_6 ?_
  refine jw_iconst (pc' := 16) (x := (0 : Int32)) rfl rfl ?_
  refine jw_aload_n (pc' := 17) rfl rfl ?_
  refine jw_getR (pc' := 20) (F := 61) (t' := 113) rfl rfl rfl rfl rfl g_5 ?_
  refine jw_getI (pc' := 23) (F := 18) rfl rfl rfl rfl g_6 ?_
  obtain ⟨g_7, w⟩ := w
  refine jw_cV (st := []) (sa := [vR 113 (jfr h_2 61 r0), vR 127 (jfr h_2 17 (jfr h_2 61 r1)), vI (0 : Int32), vI (jfi h_2 18 (jfr h_2 61 r1))]) okX2_copy rfl rfl rfl rfl rfl rfl (jstp_virtual (sa := [vR 127 (jfr h_2 17 (jfr h_2 61 r1)), vI (0 : Int32), vI (jfi h_2 18 (jfr h_2 61 r1))]) (st := []) (k := 0) rfl rfl sX2_copy okX2_copy g_7 (one113.k g_7) rfl rfl) w (fun h_8 _ _ w => ?_)
  refine jw_aload_n (pc' := 27) rfl rfl ?_
  refine jw_aload_n (pc' := 28) rfl rfl ?_
  refine jw_getI (pc' := 31) (F := 63) rfl rfl rfl rfl g_5 ?_
  refine jw_putI' (pc' := 34) (F := 63) rfl rfl rfl (Or.inr rfl) (Or.inl rfl) rfl (rfl) (rfl) rfl g_1 (fun h_11 e_12 => ?_)
  replace w := w h_11 e_12
  refine jw_iconst (pc' := 35) (x := (0 : Int32)) rfl rfl ?_
  refine jw_istore_n (pc' := 36) (ls' := [some (vR 7 r0), some (vR 7 r1), some (vI (0 : Int32))]) rfl (by decide) rfl ?_
  obtain ⟨n, w⟩ := w
  exact l_X7_copy_36 n _ _ _ _ w
def T_X7_copy (D : JD) (d : Nat) (Q : JO → JH → Prop) (r0 : Nat) (r1 : Nat) (h : JH) : Prop := W_X7_copy_0 D d Q r0 r1 h
theorem t_X7_copy {D : JD} {d : Nat} {Q : JO → JH → Prop} {r0 : Nat} {r1 : Nat} {h : JH} (w : T_X7_copy D d Q r0 r1 h) : cX7_copy D (d + 1) r0 r1 h Q := by
  unfold T_X7_copy at w
  unfold cX7_copy
  exact w_X7_copy_0 w
