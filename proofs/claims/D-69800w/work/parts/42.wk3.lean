/-! what each method needs (printed by tools/gen_wp.py) -/
set_option maxRecDepth 4000
def W_X23_row_0 (D : JD) (d : Nat) (Q : JO → JH → Prop) (r0 : Nat) (h : JH) : Prop :=
  r0 ≠ 0 ∧ (∀ (r_2 : Nat) (h_3 : JH), r_2 = jsz h + 1 → h_3 = nwa h 221 10 → ((jfr h 103 r0) ≠ 0 ∧ jin (jfi h 105 r0) (jln h_3 (jfr h 103 r0)) ∧ ∀ h_8 : JH, h_8 = war h_3 (jfr h 103 r0) (ixn (jfi h 105 r0)) r_2 → (∀ h_10 : JH, h_10 = wfi h_8 105 r0 ((jfi h_8 105 r0) + (1 : Int32)) → (Q (.inl none) h_10))))
theorem w_X23_row_0 {D : JD} {d : Nat} {Q : JO → JH → Prop} {r0 : Nat} {h : JH} (w : W_X23_row_0 D d Q r0 h) : JW D (d + 1) mX23_row 0 [some (vR 19 r0)] [] h Q := by
  unfold W_X23_row_0 at w
  refine jw_aload_n (pc' := 1) rfl rfl ?_
  obtain ⟨g_1, w⟩ := w
  refine jw_getR (pc' := 4) (F := 103) (t' := 146) rfl rfl rfl rfl rfl g_1 ?_
  refine jw_aload_n (pc' := 5) rfl rfl ?_
  refine jw_getI (pc' := 8) (F := 105) rfl rfl rfl rfl g_1 ?_
  refine jw_bipush (pc' := 10) (x := (10 : Int32)) rfl rfl ?_
  refine jw_anew' (pc' := 13) (n := 10) (k := 221) rfl rfl rfl rfl rfl rfl rfl (jtb_mem (c := 1) (i := 180) rfl) ⟨by decide, rfl⟩ rfl (fun r_2 h_3 e_4 e_5 => ?_)
  replace w := w r_2 h_3 e_4 e_5
  obtain ⟨g_6, w⟩ := w
  obtain ⟨g_7, w⟩ := w
  refine jw_aast' (pc' := 14) rfl rfl rfl rfl rfl rfl g_6 g_7 (fun h_8 e_9 => ?_)
  replace w := w h_8 e_9
  refine jw_aload_n (pc' := 15) rfl rfl ?_
  refine jw_dup (pc' := 16) rfl rfl ?_
  refine jw_getI (pc' := 19) (F := 105) rfl rfl rfl rfl g_1 ?_
  refine jw_iconst (pc' := 20) (x := (1 : Int32)) rfl rfl ?_
  refine jw_iadd (pc' := 21) rfl ?_
  refine jw_putI' (pc' := 24) (F := 105) rfl rfl rfl (Or.inr rfl) (Or.inl rfl) rfl (rfl) (rfl) rfl g_1 (fun h_10 e_11 => ?_)
  replace w := w h_10 e_11
  exact jw_return rfl rfl w
def T_X23_row (D : JD) (d : Nat) (Q : JO → JH → Prop) (r0 : Nat) (h : JH) : Prop := W_X23_row_0 D d Q r0 h
theorem t_X23_row {D : JD} {d : Nat} {Q : JO → JH → Prop} {r0 : Nat} {h : JH} (w : T_X23_row D d Q r0 h) : cX23_row D (d + 1) r0 h Q := by
  unfold T_X23_row at w
  unfold cX23_row
  exact w_X23_row_0 w
def W_X23_wide_21 (D : JD) (d : Nat) (Q : JO → JH → Prop) (s0 : Int32) (h : JH) : Prop :=
  jbo s0 ∧ (Q (.inl (some (vI s0))) h)
theorem w_X23_wide_21 {D : JD} {d : Nat} {Q : JO → JH → Prop} {s0 : Int32} {h : JH} (w : W_X23_wide_21 D d Q s0 h) : JW D (d + 1) mX23_wide 21 [none] [vI s0] h Q := by
  unfold W_X23_wide_21 at w
  obtain ⟨g_1, w⟩ := w
  exact jw_ireturn rfl rfl (g_1.nr) w
def W_X23_wide_0 (D : JD) (d : Nat) (Q : JO → JH → Prop) (r0 : Nat) (h : JH) : Prop :=
  r0 ≠ 0 ∧ ((jfr h 104 r0) ≠ 0 ∧ jin ((jfi h 105 r0) - (1 : Int32)) (jln h (jfr h 104 r0)) ∧ ((¬ (jai h (jfr h 104 r0) (ixn ((jfi h 105 r0) - (1 : Int32)))) = (10 : Int32) → W_X23_wide_21 D d Q (0 : Int32) h) ∧ ((jai h (jfr h 104 r0) (ixn ((jfi h 105 r0) - (1 : Int32)))) = (10 : Int32) → W_X23_wide_21 D d Q (1 : Int32) h)))
theorem w_X23_wide_0 {D : JD} {d : Nat} {Q : JO → JH → Prop} {r0 : Nat} {h : JH} (w : W_X23_wide_0 D d Q r0 h) : JW D (d + 1) mX23_wide 0 [some (vR 19 r0)] [] h Q := by
  unfold W_X23_wide_0 at w
  refine jw_aload_n (pc' := 1) rfl rfl ?_
  obtain ⟨g_1, w⟩ := w
  refine jw_getR (pc' := 4) (F := 104) (t' := 147) rfl rfl rfl rfl rfl g_1 ?_
  refine jw_aload_n (pc' := 5) rfl rfl ?_
  refine jw_getI (pc' := 8) (F := 105) rfl rfl rfl rfl g_1 ?_
  refine jw_iconst (pc' := 9) (x := (1 : Int32)) rfl rfl ?_
  refine jw_isub (pc' := 10) rfl ?_
  obtain ⟨g_2, w⟩ := w
  obtain ⟨g_3, w⟩ := w
  refine jw_iald (pc' := 11) rfl rfl rfl rfl g_2 g_3.ix g_3.2 ?_
  refine jw_bipush (pc' := 13) (x := (10 : Int32)) rfl rfl ?_
  refine jw_icmp_ne (tgt := 20) (pc' := 16) rfl rfl (fun c_4 => ?_) (fun c_4 => ?_)
  · replace w := w.1 c_4
    refine jw_iconst (pc' := 21) (x := (0 : Int32)) rfl rfl ?_
    refine jw_gen (ls' := [none]) (st' := [vI (0 : Int32)]) (trivial) (And.intro (Or.inl rfl) (trivial)) ?_
    exact w_X23_wide_21 w
  · replace w := w.2 c_4
    refine jw_iconst (pc' := 17) (x := (1 : Int32)) rfl rfl ?_
    refine jw_goto (pc' := 21) rfl rfl ?_
    refine jw_gen (ls' := [none]) (st' := [vI (1 : Int32)]) (trivial) (And.intro (Or.inl rfl) (trivial)) ?_
    exact w_X23_wide_21 w
def T_X23_wide (D : JD) (d : Nat) (Q : JO → JH → Prop) (r0 : Nat) (h : JH) : Prop := W_X23_wide_0 D d Q r0 h
theorem t_X23_wide {D : JD} {d : Nat} {Q : JO → JH → Prop} {r0 : Nat} {h : JH} (w : T_X23_wide D d Q r0 h) : cX23_wide D (d + 1) r0 h Q := by
  unfold T_X23_wide at w
  unfold cX23_wide
  exact w_X23_wide_0 w
def W_X23_value_0 (D : JD) (d : Nat) (Q : JO → JH → Prop) (r0 : Nat) (r1 : Nat) (h : JH) : Prop :=
  r0 ≠ 0 ∧ ((jfr h 103 r0) ≠ 0 ∧ jin ((jfi h 105 r0) - (1 : Int32)) (jln h (jfr h 103 r0)) ∧ ((jfr h 104 r0) ≠ 0 ∧ jin ((jfi h 105 r0) - (1 : Int32)) (jln h (jfr h 104 r0)) ∧ ((jar h (jfr h 103 r0) (ixn ((jfi h 105 r0) - (1 : Int32)))) ≠ 0 ∧ jin (jai h (jfr h 104 r0) (ixn ((jfi h 105 r0) - (1 : Int32)))) (jln h (jar h (jfr h 103 r0) (ixn ((jfi h 105 r0) - (1 : Int32))))) ∧ ∀ h_8 : JH, h_8 = war h (jar h (jfr h 103 r0) (ixn ((jfi h 105 r0) - (1 : Int32)))) (ixn (jai h (jfr h 104 r0) (ixn ((jfi h 105 r0) - (1 : Int32))))) r1 → ((jfr h_8 104 r0) ≠ 0 ∧ jin ((jfi h_8 105 r0) - (1 : Int32)) (jln h_8 (jfr h_8 104 r0)) ∧ (jin ((jfi h_8 105 r0) - (1 : Int32)) (jln h_8 (jfr h_8 104 r0)) ∧ ∀ h_13 : JH, h_13 = wai h_8 (jfr h_8 104 r0) (ixn ((jfi h_8 105 r0) - (1 : Int32))) ((jai h_8 (jfr h_8 104 r0) (ixn ((jfi h_8 105 r0) - (1 : Int32)))) + (1 : Int32)) → (Q (.inl none) h_13))))))
theorem w_X23_value_0 {D : JD} {d : Nat} {Q : JO → JH → Prop} {r0 : Nat} {r1 : Nat} {h : JH} (w : W_X23_value_0 D d Q r0 r1 h) : JW D (d + 1) mX23_value 0 [some (vR 19 r0), some (vR 55 r1)] [] h Q := by
  unfold W_X23_value_0 at w
  refine jw_aload_n (pc' := 1) rfl rfl ?_
  obtain ⟨g_1, w⟩ := w
  refine jw_getR (pc' := 4) (F := 103) (t' := 146) rfl rfl rfl rfl rfl g_1 ?_
  refine jw_aload_n (pc' := 5) rfl rfl ?_
  refine jw_getI (pc' := 8) (F := 105) rfl rfl rfl rfl g_1 ?_
  refine jw_iconst (pc' := 9) (x := (1 : Int32)) rfl rfl ?_
  refine jw_isub (pc' := 10) rfl ?_
  obtain ⟨g_2, w⟩ := w
  obtain ⟨g_3, w⟩ := w
  refine jw_aald (pc' := 11) (t' := 77) rfl rfl rfl rfl g_2 g_3.ix g_3.2 ?_
  refine jw_aload_n (pc' := 12) rfl rfl ?_
  refine jw_getR (pc' := 15) (F := 104) (t' := 147) rfl rfl rfl rfl rfl g_1 ?_
  refine jw_aload_n (pc' := 16) rfl rfl ?_
  refine jw_getI (pc' := 19) (F := 105) rfl rfl rfl rfl g_1 ?_
  refine jw_iconst (pc' := 20) (x := (1 : Int32)) rfl rfl ?_
  refine jw_isub (pc' := 21) rfl ?_
  obtain ⟨g_4, w⟩ := w
  obtain ⟨g_5, w⟩ := w
  refine jw_iald (pc' := 22) rfl rfl rfl rfl g_4 g_5.ix g_5.2 ?_
  refine jw_aload_n (pc' := 23) rfl rfl ?_
  obtain ⟨g_6, w⟩ := w
  obtain ⟨g_7, w⟩ := w
  refine jw_aast' (pc' := 24) rfl rfl rfl rfl rfl rfl g_6 g_7 (fun h_8 e_9 => ?_)
  replace w := w h_8 e_9
  refine jw_aload_n (pc' := 25) rfl rfl ?_
  refine jw_getR (pc' := 28) (F := 104) (t' := 147) rfl rfl rfl rfl rfl g_1 ?_
  refine jw_aload_n (pc' := 29) rfl rfl ?_
  refine jw_getI (pc' := 32) (F := 105) rfl rfl rfl rfl g_1 ?_
  refine jw_iconst (pc' := 33) (x := (1 : Int32)) rfl rfl ?_
  refine jw_isub (pc' := 34) rfl ?_
  refine jw_dup2 (pc' := 35) rfl rfl rfl ?_
  obtain ⟨g_10, w⟩ := w
  obtain ⟨g_11, w⟩ := w
  refine jw_iald (pc' := 36) rfl rfl rfl rfl g_10 g_11.ix g_11.2 ?_
  refine jw_iconst (pc' := 37) (x := (1 : Int32)) rfl rfl ?_
  refine jw_iadd (pc' := 38) rfl ?_
  obtain ⟨g_12, w⟩ := w
  refine jw_iast' (pc' := 39) rfl rfl rfl rfl rfl g_10 g_12 (fun h_13 e_14 => ?_)
  replace w := w h_13 e_14
  exact jw_return rfl rfl w
def T_X23_value (D : JD) (d : Nat) (Q : JO → JH → Prop) (r0 : Nat) (r1 : Nat) (h : JH) : Prop := W_X23_value_0 D d Q r0 r1 h
theorem t_X23_value {D : JD} {d : Nat} {Q : JO → JH → Prop} {r0 : Nat} {r1 : Nat} {h : JH} (w : T_X23_value D d Q r0 r1 h) : cX23_value D (d + 1) r0 r1 h Q := by
  unfold T_X23_value at w
  unfold cX23_value
  exact w_X23_value_0 w
def W_X23_check_188 (D : JD) (d : Nat) (Q : JO → JH → Prop) (K134 : Nat → Nat → Int32 → Int32 → JH → Prop) (K166 : Nat → Nat → Int32 → Int32 → Int32 → JH → Prop) (r0 : Nat) (r1 : Nat) (x2 : Int32) (x3 : Int32) (x4 : Int32) (q0 : Nat) (h : JH) : Prop :=
  r0 ≠ 0 ∧ ((jfr h 107 r0) ≠ 0 ∧ ((jfr h 106 r0) ≠ 0 ∧ jin x4 (jln h (jfr h 106 r0)) ∧ ((jfr h 43 (jfr h 107 r0)) ≠ 0 ∧ jin (jai h (jfr h 106 r0) (ixn x4)) (jln h (jfr h 43 (jfr h 107 r0))) ∧ ((jar h (jfr h 43 (jfr h 107 r0)) (ixn (jai h (jfr h 106 r0) (ixn x4)))) ≠ 0 ∧ (cX24_need D d q0 (jfr h 93 (jar h (jfr h 43 (jfr h 107 r0)) (ixn (jai h (jfr h 106 r0) (ixn x4))))) h (pV D h (fun h_8 => K166 r0 r1 x2 x3 (x4 + (1 : Int32)) h_8) (jth Q)))))))
theorem w_X23_check_188 {D : JD} {d : Nat} {Q : JO → JH → Prop} {K134 : Nat → Nat → Int32 → Int32 → JH → Prop} {K166 : Nat → Nat → Int32 → Int32 → Int32 → JH → Prop} {r0 : Nat} {r1 : Nat} {x2 : Int32} {x3 : Int32} {x4 : Int32} {q0 : Nat} {h : JH} (hK134 : ∀ (r0 : Nat) (r1 : Nat) (x2 : Int32) (x3 : Int32) (h : JH), K134 r0 r1 x2 x3 h → JW D (d + 1) mX23_check 134 [some (vR 19 r0), some (vR 3 r1), some (vI x2), some (vI x3), none] [] h Q) (hK166 : ∀ (r0 : Nat) (r1 : Nat) (x2 : Int32) (x3 : Int32) (x4 : Int32) (h : JH), K166 r0 r1 x2 x3 x4 h → JW D (d + 1) mX23_check 166 [some (vR 19 r0), some (vR 3 r1), some (vI x2), some (vI x3), some (vI x4)] [] h Q) (w : W_X23_check_188 D d Q K134 K166 r0 r1 x2 x3 x4 q0 h) : JW D (d + 1) mX23_check 188 [some (vR 19 r0), some (vR 3 r1), some (vI x2), some (vI x3), some (vI x4)] [vR 52 q0] h Q := by
  unfold W_X23_check_188 at w
  refine jw_aload_n (pc' := 189) rfl rfl ?_
  obtain ⟨g_1, w⟩ := w
  refine jw_getR (pc' := 192) (F := 107) (t' := 5) rfl rfl rfl rfl rfl g_1 ?_
  obtain ⟨g_2, w⟩ := w
  refine jw_getR (pc' := 195) (F := 43) (t' := 82) rfl rfl rfl rfl rfl g_2 ?_
  refine jw_aload_n (pc' := 196) rfl rfl ?_
  refine jw_getR (pc' := 199) (F := 106) (t' := 148) rfl rfl rfl rfl rfl g_1 ?_
  refine jw_iload (pc' := 201) rfl rfl ?_
  obtain ⟨g_3, w⟩ := w
  obtain ⟨g_4, w⟩ := w
  refine jw_iald (pc' := 202) rfl rfl rfl rfl g_3 g_4.ix g_4.2 ?_
  obtain ⟨g_5, w⟩ := w
  obtain ⟨g_6, w⟩ := w
  refine jw_aald (pc' := 203) (t' := 16) rfl rfl rfl rfl g_5 g_6.ix g_6.2 ?_
  obtain ⟨g_7, w⟩ := w
  refine jw_getR (pc' := 206) (F := 93) (t' := 52) rfl rfl rfl rfl rfl g_7 ?_
  refine jw_cV (st := []) (sa := [vR 52 q0, vR 52 (jfr h 93 (jar h (jfr h 43 (jfr h 107 r0)) (ixn (jai h (jfr h 106 r0) (ixn x4)))))]) okX24_need rfl rfl rfl rfl rfl rfl (jstp_static (sa := [vR 52 q0, vR 52 (jfr h 93 (jar h (jfr h 43 (jfr h 107 r0)) (ixn (jai h (jfr h 106 r0) (ixn x4)))))]) (st := []) rfl rfl sX24_need okX24_need rfl rfl) w (fun h_8 _ _ w => ?_)
  refine jw_iinc (pc' := 212) (y := x4 + (1 : Int32)) (ls' := [some (vR 19 r0), some (vR 3 r1), some (vI x2), some (vI x3), some (vI (x4 + (1 : Int32)))]) rfl (by decide) rfl rfl rfl ?_
  refine jw_goto (pc' := 166) rfl rfl ?_
  exact hK166 _ _ _ _ _ _ w
def W_X23_check_166 (D : JD) (d : Nat) (Q : JO → JH → Prop) (K134 : Nat → Nat → Int32 → Int32 → JH → Prop) (K166 : Nat → Nat → Int32 → Int32 → Int32 → JH → Prop) (r0 : Nat) (r1 : Nat) (x2 : Int32) (x3 : Int32) (x4 : Int32) (h : JH) : Prop :=
  (x2 ≤ x4 → K134 r0 r1 x2 (x3 + (1 : Int32)) h) ∧ (¬ x2 ≤ x4 → r0 ≠ 0 ∧ ((jfr h 103 r0) ≠ 0 ∧ jin x3 (jln h (jfr h 103 r0)) ∧ ((jar h (jfr h 103 r0) (ixn x3)) ≠ 0 ∧ jin x4 (jln h (jar h (jfr h 103 r0) (ixn x3))) ∧ (r1 ≠ 0 ∧ ((jar h (jar h (jfr h 103 r0) (ixn x3)) (ixn x4)) ≠ 0 ∧ (v55_check D d (jar h (jar h (jfr h 103 r0) (ixn x3)) (ixn x4)) (jfr h 23 r1) h (pR D h 52 (fun v_11 h_9 => W_X23_check_188 D d Q K134 K166 r0 r1 x2 x3 x4 v_11 h_9) (jth Q))))))))
theorem w_X23_check_166 {D : JD} {d : Nat} {Q : JO → JH → Prop} {K134 : Nat → Nat → Int32 → Int32 → JH → Prop} {K166 : Nat → Nat → Int32 → Int32 → Int32 → JH → Prop} {r0 : Nat} {r1 : Nat} {x2 : Int32} {x3 : Int32} {x4 : Int32} {h : JH} (hK134 : ∀ (r0 : Nat) (r1 : Nat) (x2 : Int32) (x3 : Int32) (h : JH), K134 r0 r1 x2 x3 h → JW D (d + 1) mX23_check 134 [some (vR 19 r0), some (vR 3 r1), some (vI x2), some (vI x3), none] [] h Q) (hK166 : ∀ (r0 : Nat) (r1 : Nat) (x2 : Int32) (x3 : Int32) (x4 : Int32) (h : JH), K166 r0 r1 x2 x3 x4 h → JW D (d + 1) mX23_check 166 [some (vR 19 r0), some (vR 3 r1), some (vI x2), some (vI x3), some (vI x4)] [] h Q) (w : W_X23_check_166 D d Q K134 K166 r0 r1 x2 x3 x4 h) : JW D (d + 1) mX23_check 166 [some (vR 19 r0), some (vR 3 r1), some (vI x2), some (vI x3), some (vI x4)] [] h Q := by
  unfold W_X23_check_166 at w
  refine jw_iload (pc' := 168) rfl rfl ?_
  refine jw_iload_n (pc' := 169) rfl rfl ?_
  refine jw_icmp_ge (tgt := 215) (pc' := 172) rfl rfl (fun c_1 => ?_) (fun c_1 => ?_)
  · replace w := w.1 c_1
    refine jw_iinc (pc' := 218) (y := x3 + (1 : Int32)) (ls' := [some (vR 19 r0), some (vR 3 r1), some (vI x2), some (vI (x3 + (1 : Int32))), some (vI x4)]) rfl (by decide) rfl rfl rfl ?_
    refine jw_goto (pc' := 134) rfl rfl ?_
    refine jw_gen (ls' := [some (vR 19 r0), some (vR 3 r1), some (vI x2), some (vI (x3 + (1 : Int32))), none]) (st' := []) (And.intro (Or.inl rfl) (And.intro (Or.inl rfl) (And.intro (Or.inl rfl) (And.intro (Or.inl rfl) (trivial))))) (trivial) ?_
    exact hK134 _ _ _ _ _ w
  · replace w := w.2 c_1
    refine jw_aload_n (pc' := 173) rfl rfl ?_
    obtain ⟨g_2, w⟩ := w
    refine jw_getR (pc' := 176) (F := 103) (t' := 146) rfl rfl rfl rfl rfl g_2 ?_
    refine jw_iload_n (pc' := 177) rfl rfl ?_
    obtain ⟨g_3, w⟩ := w
    obtain ⟨g_4, w⟩ := w
    refine jw_aald (pc' := 178) (t' := 77) rfl rfl rfl rfl g_3 g_4.ix g_4.2 ?_
    refine jw_iload (pc' := 180) rfl rfl ?_
    obtain ⟨g_5, w⟩ := w
    obtain ⟨g_6, w⟩ := w
    refine jw_aald (pc' := 181) (t' := 55) rfl rfl rfl rfl g_5 g_6.ix g_6.2 ?_
    refine jw_aload_n (pc' := 182) rfl rfl ?_
    obtain ⟨g_7, w⟩ := w
    refine jw_getR (pc' := 185) (F := 23) (t' := 6) rfl rfl rfl rfl rfl g_7 ?_
    obtain ⟨g_8, w⟩ := w
    refine JW.inv (fun hI => JW.oks (fun ho => ?_))
    have hkd := und55.k hI (ho (vR 55 (jar h (jar h (jfr h 103 r0) (ixn x3)) (ixn x4))) (by simp)) g_8
    simp only [List.mem_cons, List.not_mem_nil, or_false] at hkd
    clear ho hI
    rcases hkd with e_12 | e_12 | e_12 | e_12 | e_12 | e_12 | e_12 | e_12 | e_12 | e_12
    · refine jw_gen (ls' := _) (st' := [vR 6 (jfr h 23 r1), vR 20 (jar h (jar h (jfr h 103 r0) (ixn x3)) (ixn x4))]) (jgl_rf _ _) (And.intro (Or.inl rfl) (And.intro (Or.inr ⟨_, _, _, rfl, rfl, Or.inr (Or.inr (by rw [e_12]; rfl))⟩) (jgs_rf _ _))) ?_
      refine jw_cR (st := []) (sa := [vR 20 (jar h (jar h (jfr h 103 r0) (ixn x3)) (ixn x4)), vR 6 (jfr h 23 r1)]) okX25_check rfl rfl rfl rfl rfl rfl (jstp_up (sa := [vR 6 (jfr h 23 r1)]) (st := []) rfl (lw_g (jtb_mem (c := 10) (i := 179) rfl) rfl) um18 okX25_check g_8 (fun _ _ => by rw [e_12]; exact ⟨rfl, rfl⟩) rfl rfl) (w.1 e_12) (fun v_11 h_9 _ _ _ w => ?_)
      exact w_X23_check_188 hK134 hK166 w
    · refine jw_gen (ls' := _) (st' := [vR 6 (jfr h 23 r1), vR 21 (jar h (jar h (jfr h 103 r0) (ixn x3)) (ixn x4))]) (jgl_rf _ _) (And.intro (Or.inl rfl) (And.intro (Or.inr ⟨_, _, _, rfl, rfl, Or.inr (Or.inr (by rw [e_12]; rfl))⟩) (jgs_rf _ _))) ?_
      refine jw_cR (st := []) (sa := [vR 21 (jar h (jar h (jfr h 103 r0) (ixn x3)) (ixn x4)), vR 6 (jfr h 23 r1)]) okX27_check rfl rfl rfl rfl rfl rfl (jstp_up (sa := [vR 6 (jfr h 23 r1)]) (st := []) rfl (lw_g (jtb_mem (c := 10) (i := 179) rfl) rfl) um19 okX27_check g_8 (fun _ _ => by rw [e_12]; exact ⟨rfl, rfl⟩) rfl rfl) (w.2.1 e_12) (fun v_11 h_9 _ _ _ w => ?_)
      exact w_X23_check_188 hK134 hK166 w
    · refine jw_gen (ls' := _) (st' := [vR 6 (jfr h 23 r1), vR 22 (jar h (jar h (jfr h 103 r0) (ixn x3)) (ixn x4))]) (jgl_rf _ _) (And.intro (Or.inl rfl) (And.intro (Or.inr ⟨_, _, _, rfl, rfl, Or.inr (Or.inr (by rw [e_12]; rfl))⟩) (jgs_rf _ _))) ?_
      refine jw_cR (st := []) (sa := [vR 22 (jar h (jar h (jfr h 103 r0) (ixn x3)) (ixn x4)), vR 6 (jfr h 23 r1)]) okX28_check rfl rfl rfl rfl rfl rfl (jstp_up (sa := [vR 6 (jfr h 23 r1)]) (st := []) rfl (lw_g (jtb_mem (c := 10) (i := 179) rfl) rfl) um20 okX28_check g_8 (fun _ _ => by rw [e_12]; exact ⟨rfl, rfl⟩) rfl rfl) (w.2.2.1 e_12) (fun v_11 h_9 _ _ _ w => ?_)
      exact w_X23_check_188 hK134 hK166 w
    · refine jw_gen (ls' := _) (st' := [vR 6 (jfr h 23 r1), vR 23 (jar h (jar h (jfr h 103 r0) (ixn x3)) (ixn x4))]) (jgl_rf _ _) (And.intro (Or.inl rfl) (And.intro (Or.inr ⟨_, _, _, rfl, rfl, Or.inr (Or.inr (by rw [e_12]; rfl))⟩) (jgs_rf _ _))) ?_
      refine jw_cR (st := []) (sa := [vR 23 (jar h (jar h (jfr h 103 r0) (ixn x3)) (ixn x4)), vR 6 (jfr h 23 r1)]) okX29_check rfl rfl rfl rfl rfl rfl (jstp_up (sa := [vR 6 (jfr h 23 r1)]) (st := []) rfl (lw_g (jtb_mem (c := 10) (i := 179) rfl) rfl) um21 okX29_check g_8 (fun _ _ => by rw [e_12]; exact ⟨rfl, rfl⟩) rfl rfl) (w.2.2.2.1 e_12) (fun v_11 h_9 _ _ _ w => ?_)
      exact w_X23_check_188 hK134 hK166 w
    · refine jw_gen (ls' := _) (st' := [vR 6 (jfr h 23 r1), vR 24 (jar h (jar h (jfr h 103 r0) (ixn x3)) (ixn x4))]) (jgl_rf _ _) (And.intro (Or.inl rfl) (And.intro (Or.inr ⟨_, _, _, rfl, rfl, Or.inr (Or.inr (by rw [e_12]; rfl))⟩) (jgs_rf _ _))) ?_
      refine jw_cR (st := []) (sa := [vR 24 (jar h (jar h (jfr h 103 r0) (ixn x3)) (ixn x4)), vR 6 (jfr h 23 r1)]) okX30_check rfl rfl rfl rfl rfl rfl (jstp_up (sa := [vR 6 (jfr h 23 r1)]) (st := []) rfl (lw_g (jtb_mem (c := 10) (i := 179) rfl) rfl) um22 okX30_check g_8 (fun _ _ => by rw [e_12]; exact ⟨rfl, rfl⟩) rfl rfl) (w.2.2.2.2.1 e_12) (fun v_11 h_9 _ _ _ w => ?_)
      exact w_X23_check_188 hK134 hK166 w
    · refine jw_gen (ls' := _) (st' := [vR 6 (jfr h 23 r1), vR 25 (jar h (jar h (jfr h 103 r0) (ixn x3)) (ixn x4))]) (jgl_rf _ _) (And.intro (Or.inl rfl) (And.intro (Or.inr ⟨_, _, _, rfl, rfl, Or.inr (Or.inr (by rw [e_12]; rfl))⟩) (jgs_rf _ _))) ?_
      refine jw_cR (st := []) (sa := [vR 25 (jar h (jar h (jfr h 103 r0) (ixn x3)) (ixn x4)), vR 6 (jfr h 23 r1)]) okX31_check rfl rfl rfl rfl rfl rfl (jstp_up (sa := [vR 6 (jfr h 23 r1)]) (st := []) rfl (lw_g (jtb_mem (c := 10) (i := 179) rfl) rfl) um23 okX31_check g_8 (fun _ _ => by rw [e_12]; exact ⟨rfl, rfl⟩) rfl rfl) (w.2.2.2.2.2.1 e_12) (fun v_11 h_9 _ _ _ w => ?_)
      exact w_X23_check_188 hK134 hK166 w
    · refine jw_gen (ls' := _) (st' := [vR 6 (jfr h 23 r1), vR 26 (jar h (jar h (jfr h 103 r0) (ixn x3)) (ixn x4))]) (jgl_rf _ _) (And.intro (Or.inl rfl) (And.intro (Or.inr ⟨_, _, _, rfl, rfl, Or.inr (Or.inr (by rw [e_12]; rfl))⟩) (jgs_rf _ _))) ?_
      refine jw_cR (st := []) (sa := [vR 26 (jar h (jar h (jfr h 103 r0) (ixn x3)) (ixn x4)), vR 6 (jfr h 23 r1)]) okX32_check rfl rfl rfl rfl rfl rfl (jstp_up (sa := [vR 6 (jfr h 23 r1)]) (st := []) rfl (lw_g (jtb_mem (c := 10) (i := 179) rfl) rfl) um24 okX32_check g_8 (fun _ _ => by rw [e_12]; exact ⟨rfl, rfl⟩) rfl rfl) (w.2.2.2.2.2.2.1 e_12) (fun v_11 h_9 _ _ _ w => ?_)
      exact w_X23_check_188 hK134 hK166 w
    · refine jw_gen (ls' := _) (st' := [vR 6 (jfr h 23 r1), vR 27 (jar h (jar h (jfr h 103 r0) (ixn x3)) (ixn x4))]) (jgl_rf _ _) (And.intro (Or.inl rfl) (And.intro (Or.inr ⟨_, _, _, rfl, rfl, Or.inr (Or.inr (by rw [e_12]; rfl))⟩) (jgs_rf _ _))) ?_
      refine jw_cR (st := []) (sa := [vR 27 (jar h (jar h (jfr h 103 r0) (ixn x3)) (ixn x4)), vR 6 (jfr h 23 r1)]) okX33_check rfl rfl rfl rfl rfl rfl (jstp_up (sa := [vR 6 (jfr h 23 r1)]) (st := []) rfl (lw_g (jtb_mem (c := 10) (i := 179) rfl) rfl) um25 okX33_check g_8 (fun _ _ => by rw [e_12]; exact ⟨rfl, rfl⟩) rfl rfl) (w.2.2.2.2.2.2.2.1 e_12) (fun v_11 h_9 _ _ _ w => ?_)
      exact w_X23_check_188 hK134 hK166 w
    · refine jw_gen (ls' := _) (st' := [vR 6 (jfr h 23 r1), vR 28 (jar h (jar h (jfr h 103 r0) (ixn x3)) (ixn x4))]) (jgl_rf _ _) (And.intro (Or.inl rfl) (And.intro (Or.inr ⟨_, _, _, rfl, rfl, Or.inr (Or.inr (by rw [e_12]; rfl))⟩) (jgs_rf _ _))) ?_
      refine jw_cR (st := []) (sa := [vR 28 (jar h (jar h (jfr h 103 r0) (ixn x3)) (ixn x4)), vR 6 (jfr h 23 r1)]) okX34_check rfl rfl rfl rfl rfl rfl (jstp_up (sa := [vR 6 (jfr h 23 r1)]) (st := []) rfl (lw_g (jtb_mem (c := 10) (i := 179) rfl) rfl) um26 okX34_check g_8 (fun _ _ => by rw [e_12]; exact ⟨rfl, rfl⟩) rfl rfl) (w.2.2.2.2.2.2.2.2.1 e_12) (fun v_11 h_9 _ _ _ w => ?_)
      exact w_X23_check_188 hK134 hK166 w
    · refine jw_gen (ls' := _) (st' := [vR 6 (jfr h 23 r1), vR 29 (jar h (jar h (jfr h 103 r0) (ixn x3)) (ixn x4))]) (jgl_rf _ _) (And.intro (Or.inl rfl) (And.intro (Or.inr ⟨_, _, _, rfl, rfl, Or.inr (Or.inr (by rw [e_12]; rfl))⟩) (jgs_rf _ _))) ?_
      refine jw_cR (st := []) (sa := [vR 29 (jar h (jar h (jfr h 103 r0) (ixn x3)) (ixn x4)), vR 6 (jfr h 23 r1)]) okX35_check rfl rfl rfl rfl rfl rfl (jstp_up (sa := [vR 6 (jfr h 23 r1)]) (st := []) rfl (lw_g (jtb_mem (c := 10) (i := 179) rfl) rfl) um27 okX35_check g_8 (fun _ _ => by rw [e_12]; exact ⟨rfl, rfl⟩) rfl rfl) (w.2.2.2.2.2.2.2.2.2 e_12) (fun v_11 h_9 _ _ _ w => ?_)
      exact w_X23_check_188 hK134 hK166 w
def L_X23_check_166 (D : JD) (d : Nat) (Q : JO → JH → Prop) (K134 : Nat → Nat → Int32 → Int32 → JH → Prop) : Nat → Nat → Nat → Int32 → Int32 → Int32 → JH → Prop
  | 0 => fun _ _ _ _ _ _ => False
  | n + 1 => fun r0 r1 x2 x3 x4 h => W_X23_check_166 D d Q K134 (L_X23_check_166 D d Q K134 n) r0 r1 x2 x3 x4 h
theorem l_X23_check_166 {D : JD} {d : Nat} {Q : JO → JH → Prop} {K134 : Nat → Nat → Int32 → Int32 → JH → Prop} (hK134 : ∀ (r0 : Nat) (r1 : Nat) (x2 : Int32) (x3 : Int32) (h : JH), K134 r0 r1 x2 x3 h → JW D (d + 1) mX23_check 134 [some (vR 19 r0), some (vR 3 r1), some (vI x2), some (vI x3), none] [] h Q) : ∀ (n : Nat) (r0 : Nat) (r1 : Nat) (x2 : Int32) (x3 : Int32) (x4 : Int32) (h : JH), L_X23_check_166 D d Q K134 n r0 r1 x2 x3 x4 h → JW D (d + 1) mX23_check 166 [some (vR 19 r0), some (vR 3 r1), some (vI x2), some (vI x3), some (vI x4)] [] h Q := by
  intro n
  induction n with
  | zero => intro _ _ _ _ _ _ w; exact w.elim
  | succ n ih => intro _ _ _ _ _ h w; exact w_X23_check_166 hK134 ih w
def W_X23_check_134 (D : JD) (d : Nat) (Q : JO → JH → Prop) (K134 : Nat → Nat → Int32 → Int32 → JH → Prop) (r0 : Nat) (r1 : Nat) (x2 : Int32) (x3 : Int32) (h : JH) : Prop :=
  r0 ≠ 0 ∧ (((jfi h 105 r0) ≤ x3 → Q (.inl none) h) ∧ (¬ (jfi h 105 r0) ≤ x3 → (jfr h 104 r0) ≠ 0 ∧ jin x3 (jln h (jfr h 104 r0)) ∧ (((jai h (jfr h 104 r0) (ixn x3)) = x2 → ∃ n, L_X23_check_166 D d Q K134 n r0 r1 x2 x3 (0 : Int32) h) ∧ (¬ (jai h (jfr h 104 r0) (ixn x3)) = x2 → ∀ (r_6 : Nat) (h_7 : JH), r_6 = jsz h + 1 → h_7 = nwo h 9 8 → (cX16_init D d r_6 (jcs D 174) (0 : Int32) h_7 (pV D h_7 (fun h_10 => Q (.inr r_6) h_10) (jth Q)))))))
theorem w_X23_check_134 {D : JD} {d : Nat} {Q : JO → JH → Prop} {K134 : Nat → Nat → Int32 → Int32 → JH → Prop} {r0 : Nat} {r1 : Nat} {x2 : Int32} {x3 : Int32} {h : JH} (hK134 : ∀ (r0 : Nat) (r1 : Nat) (x2 : Int32) (x3 : Int32) (h : JH), K134 r0 r1 x2 x3 h → JW D (d + 1) mX23_check 134 [some (vR 19 r0), some (vR 3 r1), some (vI x2), some (vI x3), none] [] h Q) (w : W_X23_check_134 D d Q K134 r0 r1 x2 x3 h) : JW D (d + 1) mX23_check 134 [some (vR 19 r0), some (vR 3 r1), some (vI x2), some (vI x3), none] [] h Q := by
  unfold W_X23_check_134 at w
  refine jw_iload_n (pc' := 135) rfl rfl ?_
  refine jw_aload_n (pc' := 136) rfl rfl ?_
  obtain ⟨g_1, w⟩ := w
  refine jw_getI (pc' := 139) (F := 105) rfl rfl rfl rfl g_1 ?_
  refine jw_icmp_ge (tgt := 221) (pc' := 142) rfl rfl (fun c_2 => ?_) (fun c_2 => ?_)
  · replace w := w.1 c_2
    exact jw_return rfl rfl w
  · replace w := w.2 c_2
    refine jw_aload_n (pc' := 143) rfl rfl ?_
    refine jw_getR (pc' := 146) (F := 104) (t' := 147) rfl rfl rfl rfl rfl g_1 ?_
    refine jw_iload_n (pc' := 147) rfl rfl ?_
    obtain ⟨g_3, w⟩ := w
    obtain ⟨g_4, w⟩ := w
    refine jw_iald (pc' := 148) rfl rfl rfl rfl g_3 g_4.ix g_4.2 ?_
    refine jw_iload_n (pc' := 149) rfl rfl ?_
    refine jw_icmp_eq (tgt := 163) (pc' := 152) rfl rfl (fun c_5 => ?_) (fun c_5 => ?_)
    · replace w := w.1 c_5
      refine jw_iconst (pc' := 164) (x := (0 : Int32)) rfl rfl ?_
      refine jw_istore (pc' := 166) (ls' := [some (vR 19 r0), some (vR 3 r1), some (vI x2), some (vI x3), some (vI (0 : Int32))]) rfl (by decide) rfl ?_
      obtain ⟨n, w⟩ := w
      exact l_X23_check_166 hK134 n _ _ _ _ _ _ w
    · replace w := w.2 c_5
      refine jw_new' (pc' := 155) (k := 9) (n := 8) rfl rfl rfl rfl rfl rfl rfl (fun r_6 h_7 e_8 e_9 => ?_)
      replace w := w r_6 h_7 e_8 e_9
      refine jw_dup (pc' := 156) rfl rfl ?_
      refine jw_ldcS (pc' := 158) rfl rfl rfl rfl ?_
      refine jw_iconst (pc' := 159) (x := (0 : Int32)) rfl rfl ?_
      refine jw_cV (st := [vR 9 r_6]) (sa := [vR 9 r_6, vR 51 (jcs D 174), vI (0 : Int32)]) okX16_init rfl rfl rfl rfl rfl rfl (jstp_init (sa := [vR 51 (jcs D 174), vI (0 : Int32)]) (st := [vR 9 r_6]) rfl rfl sX16_init okX16_init (lw_g (jtb_mem (c := 3) (i := 64) rfl) rfl) (jnz e_8) rfl rfl) w (fun h_10 _ _ w => ?_)
      exact jw_athrow rfl rfl (jnz e_8) w
def L_X23_check_134 (D : JD) (d : Nat) (Q : JO → JH → Prop) : Nat → Nat → Nat → Int32 → Int32 → JH → Prop
  | 0 => fun _ _ _ _ _ => False
  | n + 1 => fun r0 r1 x2 x3 h => W_X23_check_134 D d Q (L_X23_check_134 D d Q n) r0 r1 x2 x3 h
theorem l_X23_check_134 {D : JD} {d : Nat} {Q : JO → JH → Prop} : ∀ (n : Nat) (r0 : Nat) (r1 : Nat) (x2 : Int32) (x3 : Int32) (h : JH), L_X23_check_134 D d Q n r0 r1 x2 x3 h → JW D (d + 1) mX23_check 134 [some (vR 19 r0), some (vR 3 r1), some (vI x2), some (vI x3), none] [] h Q := by
  intro n
  induction n with
  | zero => intro _ _ _ _ _ w; exact w.elim
  | succ n ih => intro _ _ _ _ h w; exact w_X23_check_134 ih w
def W_X23_check_92 (D : JD) (d : Nat) (Q : JO → JH → Prop) (K39 : Nat → Nat → Int32 → Int32 → JH → Prop) (K92 : Nat → Nat → Int32 → Int32 → Int32 → JH → Prop) (r0 : Nat) (r1 : Nat) (x2 : Int32) (x3 : Int32) (x4 : Int32) (h : JH) : Prop :=
  (x3 ≤ x4 → K39 r0 r1 x2 (x3 + (1 : Int32)) h) ∧ (¬ x3 ≤ x4 → r0 ≠ 0 ∧ ((jfr h 106 r0) ≠ 0 ∧ jin x4 (jln h (jfr h 106 r0)) ∧ (jin x3 (jln h (jfr h 106 r0)) ∧ ((¬ (jai h (jfr h 106 r0) (ixn x4)) = (jai h (jfr h 106 r0) (ixn x3)) → K92 r0 r1 x2 x3 (x4 + (1 : Int32)) h) ∧ ((jai h (jfr h 106 r0) (ixn x4)) = (jai h (jfr h 106 r0) (ixn x3)) → cX1_fault D d (jcs D 173) h (pR D h 9 (fun v_9 h_7 => v_9 ≠ 0 ∧ (Q (.inr v_9) h_7)) (jth Q)))))))
theorem w_X23_check_92 {D : JD} {d : Nat} {Q : JO → JH → Prop} {K39 : Nat → Nat → Int32 → Int32 → JH → Prop} {K92 : Nat → Nat → Int32 → Int32 → Int32 → JH → Prop} {r0 : Nat} {r1 : Nat} {x2 : Int32} {x3 : Int32} {x4 : Int32} {h : JH} (hK39 : ∀ (r0 : Nat) (r1 : Nat) (x2 : Int32) (x3 : Int32) (h : JH), K39 r0 r1 x2 x3 h → JW D (d + 1) mX23_check 39 [some (vR 19 r0), some (vR 3 r1), some (vI x2), some (vI x3), none] [] h Q) (hK92 : ∀ (r0 : Nat) (r1 : Nat) (x2 : Int32) (x3 : Int32) (x4 : Int32) (h : JH), K92 r0 r1 x2 x3 x4 h → JW D (d + 1) mX23_check 92 [some (vR 19 r0), some (vR 3 r1), some (vI x2), some (vI x3), some (vI x4)] [] h Q) (w : W_X23_check_92 D d Q K39 K92 r0 r1 x2 x3 x4 h) : JW D (d + 1) mX23_check 92 [some (vR 19 r0), some (vR 3 r1), some (vI x2), some (vI x3), some (vI x4)] [] h Q := by
  unfold W_X23_check_92 at w
  refine jw_iload (pc' := 94) rfl rfl ?_
  refine jw_iload_n (pc' := 95) rfl rfl ?_
  refine jw_icmp_ge (tgt := 126) (pc' := 98) rfl rfl (fun c_1 => ?_) (fun c_1 => ?_)
  · replace w := w.1 c_1
    refine jw_iinc (pc' := 129) (y := x3 + (1 : Int32)) (ls' := [some (vR 19 r0), some (vR 3 r1), some (vI x2), some (vI (x3 + (1 : Int32))), some (vI x4)]) rfl (by decide) rfl rfl rfl ?_
    refine jw_goto (pc' := 39) rfl rfl ?_
    refine jw_gen (ls' := [some (vR 19 r0), some (vR 3 r1), some (vI x2), some (vI (x3 + (1 : Int32))), none]) (st' := []) (And.intro (Or.inl rfl) (And.intro (Or.inl rfl) (And.intro (Or.inl rfl) (And.intro (Or.inl rfl) (trivial))))) (trivial) ?_
    exact hK39 _ _ _ _ _ w
  · replace w := w.2 c_1
    refine jw_aload_n (pc' := 99) rfl rfl ?_
    obtain ⟨g_2, w⟩ := w
    refine jw_getR (pc' := 102) (F := 106) (t' := 148) rfl rfl rfl rfl rfl g_2 ?_
    refine jw_iload (pc' := 104) rfl rfl ?_
    obtain ⟨g_3, w⟩ := w
    obtain ⟨g_4, w⟩ := w
    refine jw_iald (pc' := 105) rfl rfl rfl rfl g_3 g_4.ix g_4.2 ?_
    refine jw_aload_n (pc' := 106) rfl rfl ?_
    refine jw_getR (pc' := 109) (F := 106) (t' := 148) rfl rfl rfl rfl rfl g_2 ?_
    refine jw_iload_n (pc' := 110) rfl rfl ?_
    obtain ⟨g_5, w⟩ := w
    refine jw_iald (pc' := 111) rfl rfl rfl rfl g_3 g_5.ix g_5.2 ?_
    refine jw_icmp_ne (tgt := 120) (pc' := 114) rfl rfl (fun c_6 => ?_) (fun c_6 => ?_)
    · replace w := w.1 c_6
      refine jw_iinc (pc' := 123) (y := x4 + (1 : Int32)) (ls' := [some (vR 19 r0), some (vR 3 r1), some (vI x2), some (vI x3), some (vI (x4 + (1 : Int32)))]) rfl (by decide) rfl rfl rfl ?_
      refine jw_goto (pc' := 92) rfl rfl ?_
      exact hK92 _ _ _ _ _ _ w
    · replace w := w.2 c_6
      refine jw_ldcS (pc' := 116) rfl rfl rfl rfl ?_
      refine jw_cR (st := []) (sa := [vR 51 (jcs D 173)]) okX1_fault rfl rfl rfl rfl rfl rfl (jstp_static (sa := [vR 51 (jcs D 173)]) (st := []) rfl rfl sX1_fault okX1_fault rfl rfl) w (fun v_9 h_7 _ _ _ w => ?_)
      obtain ⟨g_10, w⟩ := w
      exact jw_athrow rfl rfl g_10 w
def L_X23_check_92 (D : JD) (d : Nat) (Q : JO → JH → Prop) (K39 : Nat → Nat → Int32 → Int32 → JH → Prop) : Nat → Nat → Nat → Int32 → Int32 → Int32 → JH → Prop
  | 0 => fun _ _ _ _ _ _ => False
  | n + 1 => fun r0 r1 x2 x3 x4 h => W_X23_check_92 D d Q K39 (L_X23_check_92 D d Q K39 n) r0 r1 x2 x3 x4 h
theorem l_X23_check_92 {D : JD} {d : Nat} {Q : JO → JH → Prop} {K39 : Nat → Nat → Int32 → Int32 → JH → Prop} (hK39 : ∀ (r0 : Nat) (r1 : Nat) (x2 : Int32) (x3 : Int32) (h : JH), K39 r0 r1 x2 x3 h → JW D (d + 1) mX23_check 39 [some (vR 19 r0), some (vR 3 r1), some (vI x2), some (vI x3), none] [] h Q) : ∀ (n : Nat) (r0 : Nat) (r1 : Nat) (x2 : Int32) (x3 : Int32) (x4 : Int32) (h : JH), L_X23_check_92 D d Q K39 n r0 r1 x2 x3 x4 h → JW D (d + 1) mX23_check 92 [some (vR 19 r0), some (vR 3 r1), some (vI x2), some (vI x3), some (vI x4)] [] h Q := by
  intro n
  induction n with
  | zero => intro _ _ _ _ _ _ w; exact w.elim
  | succ n ih => intro _ _ _ _ _ h w; exact w_X23_check_92 hK39 ih w
def W_X23_check_73 (D : JD) (d : Nat) (Q : JO → JH → Prop) (K39 : Nat → Nat → Int32 → Int32 → JH → Prop) (r0 : Nat) (r1 : Nat) (x2 : Int32) (x3 : Int32) (q0 : Nat) (s1 : Int32) (s2 : Int32) (h : JH) : Prop :=
  q0 ≠ 0 ∧ jin s1 (jln h q0) ∧ ∀ h_3 : JH, h_3 = wai h q0 (ixn s1) s2 → (r0 ≠ 0 ∧ ((jfr h_3 106 r0) ≠ 0 ∧ jin x3 (jln h_3 (jfr h_3 106 r0)) ∧ ((0 ≤ (jai h_3 (jfr h_3 106 r0) (ixn x3)) → ∃ n, L_X23_check_92 D d Q K39 n r0 r1 x2 x3 (0 : Int32) h_3) ∧ (¬ 0 ≤ (jai h_3 (jfr h_3 106 r0) (ixn x3)) → cX1_fault D d (jcs D 172) h_3 (pR D h_3 9 (fun v_11 h_9 => v_11 ≠ 0 ∧ (Q (.inr v_11) h_9)) (jth Q))))))
theorem w_X23_check_73 {D : JD} {d : Nat} {Q : JO → JH → Prop} {K39 : Nat → Nat → Int32 → Int32 → JH → Prop} {r0 : Nat} {r1 : Nat} {x2 : Int32} {x3 : Int32} {q0 : Nat} {s1 : Int32} {s2 : Int32} {h : JH} (hK39 : ∀ (r0 : Nat) (r1 : Nat) (x2 : Int32) (x3 : Int32) (h : JH), K39 r0 r1 x2 x3 h → JW D (d + 1) mX23_check 39 [some (vR 19 r0), some (vR 3 r1), some (vI x2), some (vI x3), none] [] h Q) (w : W_X23_check_73 D d Q K39 r0 r1 x2 x3 q0 s1 s2 h) : JW D (d + 1) mX23_check 73 [some (vR 19 r0), some (vR 3 r1), some (vI x2), some (vI x3), none] [vI s2, vI s1, vR 148 q0] h Q := by
  unfold W_X23_check_73 at w
  obtain ⟨g_1, w⟩ := w
  obtain ⟨g_2, w⟩ := w
  refine jw_iast' (pc' := 74) rfl rfl rfl rfl rfl g_1 g_2 (fun h_3 e_4 => ?_)
  replace w := w h_3 e_4
  refine jw_aload_n (pc' := 75) rfl rfl ?_
  obtain ⟨g_5, w⟩ := w
  refine jw_getR (pc' := 78) (F := 106) (t' := 148) rfl rfl rfl rfl rfl g_5 ?_
  refine jw_iload_n (pc' := 79) rfl rfl ?_
  obtain ⟨g_6, w⟩ := w
  obtain ⟨g_7, w⟩ := w
  refine jw_iald (pc' := 80) rfl rfl rfl rfl g_6 g_7.ix g_7.2 ?_
  refine jw_if_ge (tgt := 89) (pc' := 83) rfl rfl (fun c_8 => ?_) (fun c_8 => ?_)
  · replace w := w.1 c_8
    refine jw_iconst (pc' := 90) (x := (0 : Int32)) rfl rfl ?_
    refine jw_istore (pc' := 92) (ls' := [some (vR 19 r0), some (vR 3 r1), some (vI x2), some (vI x3), some (vI (0 : Int32))]) rfl (by decide) rfl ?_
    obtain ⟨n, w⟩ := w
    exact l_X23_check_92 hK39 n _ _ _ _ _ _ w
  · replace w := w.2 c_8
    refine jw_ldcS (pc' := 85) rfl rfl rfl rfl ?_
    refine jw_cR (st := []) (sa := [vR 51 (jcs D 172)]) okX1_fault rfl rfl rfl rfl rfl rfl (jstp_static (sa := [vR 51 (jcs D 172)]) (st := []) rfl rfl sX1_fault okX1_fault rfl rfl) w (fun v_11 h_9 _ _ _ w => ?_)
    obtain ⟨g_12, w⟩ := w
    exact jw_athrow rfl rfl g_12 w
def W_X23_check_39 (D : JD) (d : Nat) (Q : JO → JH → Prop) (K39 : Nat → Nat → Int32 → Int32 → JH → Prop) (r0 : Nat) (r1 : Nat) (x2 : Int32) (x3 : Int32) (h : JH) : Prop :=
  (x2 ≤ x3 → ∃ n, L_X23_check_134 D d Q n r0 r1 x2 (0 : Int32) h) ∧ (¬ x2 ≤ x3 → r0 ≠ 0 ∧ ((¬ (jfi h 102 r0) = 0 → (jfr h 101 r0) ≠ 0 ∧ jin x3 (jln h (jfr h 101 r0)) ∧ ((jfr h 107 r0) ≠ 0 ∧ (cX5_column D d (jfr h 107 r0) (jar h (jfr h 101 r0) (ixn x3)) h (pI D h (fun v_9 h_7 => W_X23_check_73 D d Q K39 r0 r1 x2 x3 (jfr h 106 r0) x3 v_9 h_7) (jth Q))))) ∧ ((jfi h 102 r0) = 0 → W_X23_check_73 D d Q K39 r0 r1 x2 x3 (jfr h 106 r0) x3 x3 h)))
theorem w_X23_check_39 {D : JD} {d : Nat} {Q : JO → JH → Prop} {K39 : Nat → Nat → Int32 → Int32 → JH → Prop} {r0 : Nat} {r1 : Nat} {x2 : Int32} {x3 : Int32} {h : JH} (hK39 : ∀ (r0 : Nat) (r1 : Nat) (x2 : Int32) (x3 : Int32) (h : JH), K39 r0 r1 x2 x3 h → JW D (d + 1) mX23_check 39 [some (vR 19 r0), some (vR 3 r1), some (vI x2), some (vI x3), none] [] h Q) (w : W_X23_check_39 D d Q K39 r0 r1 x2 x3 h) : JW D (d + 1) mX23_check 39 [some (vR 19 r0), some (vR 3 r1), some (vI x2), some (vI x3), none] [] h Q := by
  unfold W_X23_check_39 at w
  refine jw_iload_n (pc' := 40) rfl rfl ?_
  refine jw_iload_n (pc' := 41) rfl rfl ?_
  refine jw_icmp_ge (tgt := 132) (pc' := 44) rfl rfl (fun c_1 => ?_) (fun c_1 => ?_)
  · replace w := w.1 c_1
    refine jw_iconst (pc' := 133) (x := (0 : Int32)) rfl rfl ?_
    refine jw_istore_n (pc' := 134) (ls' := [some (vR 19 r0), some (vR 3 r1), some (vI x2), some (vI (0 : Int32)), none]) rfl (by decide) rfl ?_
    obtain ⟨n, w⟩ := w
    exact l_X23_check_134 n _ _ _ _ _ w
  · replace w := w.2 c_1
    refine jw_aload_n (pc' := 45) rfl rfl ?_
    obtain ⟨g_2, w⟩ := w
    refine jw_getR (pc' := 48) (F := 106) (t' := 148) rfl rfl rfl rfl rfl g_2 ?_
    refine jw_iload_n (pc' := 49) rfl rfl ?_
    refine jw_aload_n (pc' := 50) rfl rfl ?_
    refine jw_getI (pc' := 53) (F := 102) rfl rfl rfl rfl g_2 ?_
    refine jw_if_ne (tgt := 60) (pc' := 56) rfl rfl (fun c_3 => ?_) (fun c_3 => ?_)
    · replace w := w.1 c_3
      refine jw_aload_n (pc' := 61) rfl rfl ?_
      refine jw_getR (pc' := 64) (F := 107) (t' := 5) rfl rfl rfl rfl rfl g_2 ?_
      refine jw_aload_n (pc' := 65) rfl rfl ?_
      refine jw_getR (pc' := 68) (F := 101) (t' := 145) rfl rfl rfl rfl rfl g_2 ?_
      refine jw_iload_n (pc' := 69) rfl rfl ?_
      obtain ⟨g_4, w⟩ := w
      obtain ⟨g_5, w⟩ := w
      refine jw_aald (pc' := 70) (t' := 64) rfl rfl rfl rfl g_4 g_5.ix g_5.2 ?_
      obtain ⟨g_6, w⟩ := w
      refine jw_cI (st := [vI x3, vR 148 (jfr h 106 r0)]) (sa := [vR 5 (jfr h 107 r0), vR 64 (jar h (jfr h 101 r0) (ixn x3))]) okX5_column rfl rfl rfl rfl rfl rfl (jstp_virtual (sa := [vR 64 (jar h (jfr h 101 r0) (ixn x3))]) (st := [vI x3, vR 148 (jfr h 106 r0)]) (k := 0) rfl rfl sX5_column okX5_column g_6 (one5.k g_6) rfl rfl) w (fun v_9 h_7 _ _ w => ?_)
      exact w_X23_check_73 hK39 w
    · replace w := w.2 c_3
      refine jw_iload_n (pc' := 57) rfl rfl ?_
      refine jw_goto (pc' := 73) rfl rfl ?_
      exact w_X23_check_73 hK39 w
def L_X23_check_39 (D : JD) (d : Nat) (Q : JO → JH → Prop) : Nat → Nat → Nat → Int32 → Int32 → JH → Prop
  | 0 => fun _ _ _ _ _ => False
  | n + 1 => fun r0 r1 x2 x3 h => W_X23_check_39 D d Q (L_X23_check_39 D d Q n) r0 r1 x2 x3 h
theorem l_X23_check_39 {D : JD} {d : Nat} {Q : JO → JH → Prop} : ∀ (n : Nat) (r0 : Nat) (r1 : Nat) (x2 : Int32) (x3 : Int32) (h : JH), L_X23_check_39 D d Q n r0 r1 x2 x3 h → JW D (d + 1) mX23_check 39 [some (vR 19 r0), some (vR 3 r1), some (vI x2), some (vI x3), none] [] h Q := by
  intro n
  induction n with
  | zero => intro _ _ _ _ _ w; exact w.elim
  | succ n ih => intro _ _ _ _ h w; exact w_X23_check_39 ih w
def W_X23_check_36 (D : JD) (d : Nat) (Q : JO → JH → Prop) (r0 : Nat) (r1 : Nat) (s0 : Int32) (h : JH) : Prop :=
  ∃ n, L_X23_check_39 D d Q n r0 r1 s0 (0 : Int32) h
theorem w_X23_check_36 {D : JD} {d : Nat} {Q : JO → JH → Prop} {r0 : Nat} {r1 : Nat} {s0 : Int32} {h : JH} (w : W_X23_check_36 D d Q r0 r1 s0 h) : JW D (d + 1) mX23_check 36 [some (vR 19 r0), some (vR 3 r1), none, none, none] [vI s0] h Q := by
  unfold W_X23_check_36 at w
  refine jw_istore_n (pc' := 37) (ls' := [some (vR 19 r0), some (vR 3 r1), some (vI s0), none, none]) rfl (by decide) rfl ?_
  refine jw_iconst (pc' := 38) (x := (0 : Int32)) rfl rfl ?_
  refine jw_istore_n (pc' := 39) (ls' := [some (vR 19 r0), some (vR 3 r1), some (vI s0), some (vI (0 : Int32)), none]) rfl (by decide) rfl ?_
  obtain ⟨n, w⟩ := w
  exact l_X23_check_39 n _ _ _ _ _ w
def W_X23_check_0 (D : JD) (d : Nat) (Q : JO → JH → Prop) (r0 : Nat) (r1 : Nat) (h : JH) : Prop :=
  r1 ≠ 0 ∧ (r0 ≠ 0 ∧ ((jfr h 20 r1) ≠ 0 ∧ (cX4_needed D d (jfr h 20 r1) (jfr h 100 r0) h (pR D h 5 (fun v_6 h_4 => ∀ h_7 : JH, h_7 = wfr h_4 107 r0 v_6 → ((¬ (jfi h_7 102 r0) = 0 → W_X23_check_36 D d Q r0 r1 (jfi h_7 102 r0) h_7) ∧ ((jfi h_7 102 r0) = 0 → (jfr h_7 107 r0) ≠ 0 ∧ (W_X23_check_36 D d Q r0 r1 (jfi h_7 44 (jfr h_7 107 r0)) h_7)))) (jth Q)))))
theorem w_X23_check_0 {D : JD} {d : Nat} {Q : JO → JH → Prop} {r0 : Nat} {r1 : Nat} {h : JH} (w : W_X23_check_0 D d Q r0 r1 h) : JW D (d + 1) mX23_check 0 [some (vR 19 r0), some (vR 3 r1), none, none, none] [] h Q := by
  unfold W_X23_check_0 at w
  refine jw_aload_n (pc' := 1) rfl rfl ?_
  refine jw_aload_n (pc' := 2) rfl rfl ?_
  obtain ⟨g_1, w⟩ := w
  refine jw_getR (pc' := 5) (F := 20) (t' := 114) rfl rfl rfl rfl rfl g_1 ?_
  refine jw_aload_n (pc' := 6) rfl rfl ?_
  obtain ⟨g_2, w⟩ := w
  refine jw_getR (pc' := 9) (F := 100) (t' := 64) rfl rfl rfl rfl rfl g_2 ?_
  obtain ⟨g_3, w⟩ := w
  refine jw_cR (st := [vR 19 r0]) (sa := [vR 114 (jfr h 20 r1), vR 64 (jfr h 100 r0)]) okX4_needed rfl rfl rfl rfl rfl rfl (jstp_virtual (sa := [vR 64 (jfr h 100 r0)]) (st := [vR 19 r0]) (k := 0) rfl rfl sX4_needed okX4_needed g_3 (one114.k g_3) rfl rfl) w (fun v_6 h_4 _ _ _ w => ?_)
  refine jw_putR' (pc' := 15) (F := 107) rfl rfl rfl (Or.inr rfl) (Or.inl rfl) rfl rfl rfl g_2 (fun h_7 e_8 => ?_)
  replace w := w h_7 e_8
  refine jw_aload_n (pc' := 16) rfl rfl ?_
  refine jw_getI (pc' := 19) (F := 102) rfl rfl rfl rfl g_2 ?_
  refine jw_if_ne (tgt := 32) (pc' := 22) rfl rfl (fun c_9 => ?_) (fun c_9 => ?_)
  · replace w := w.1 c_9
    refine jw_aload_n (pc' := 33) rfl rfl ?_
    refine jw_getI (pc' := 36) (F := 102) rfl rfl rfl rfl g_2 ?_
    exact w_X23_check_36 w
  · replace w := w.2 c_9
    refine jw_aload_n (pc' := 23) rfl rfl ?_
    refine jw_getR (pc' := 26) (F := 107) (t' := 5) rfl rfl rfl rfl rfl g_2 ?_
    obtain ⟨g_10, w⟩ := w
    refine jw_getI (pc' := 29) (F := 44) rfl rfl rfl rfl g_10 ?_
    refine jw_goto (pc' := 36) rfl rfl ?_
    exact w_X23_check_36 w
def T_X23_check (D : JD) (d : Nat) (Q : JO → JH → Prop) (r0 : Nat) (r1 : Nat) (h : JH) : Prop := W_X23_check_0 D d Q r0 r1 h
theorem t_X23_check {D : JD} {d : Nat} {Q : JO → JH → Prop} {r0 : Nat} {r1 : Nat} {h : JH} (w : T_X23_check D d Q r0 r1 h) : cX23_check D (d + 1) r0 r1 h Q := by
  unfold T_X23_check at w
  unfold cX23_check
  exact w_X23_check_0 w
def W_X23_work_159 (D : JD) (d : Nat) (Q : JO → JH → Prop) (K133 : Nat → Nat → Int32 → JH → Prop) (K159 : Nat → Nat → Int32 → Nat → Int32 → JH → Prop) (r0 : Nat) (r1 : Nat) (x2 : Int32) (r3 : Nat) (x4 : Int32) (h : JH) : Prop :=
  r0 ≠ 0 ∧ ((jfr h 107 r0) ≠ 0 ∧ (((jfi h 44 (jfr h 107 r0)) ≤ x4 → ∀ h_4 : JH, h_4 = wfi h 46 (jfr h 107 r0) ((jfi h 46 (jfr h 107 r0)) + (1 : Int32)) → (K133 r0 r1 (x2 + (1 : Int32)) h_4)) ∧ (¬ (jfi h 44 (jfr h 107 r0)) ≤ x4 → r3 ≠ 0 ∧ jin x4 (jln h r3) ∧ (r1 ≠ 0 ∧ (cX3_scratch D d r1 x2 h (pR D h 76 (fun v_11 h_9 => v_11 ≠ 0 ∧ jin x4 (jln h_9 v_11) ∧ ((jar h r3 (ixn x4)) ≠ 0 ∧ (cX14_copy D d (jar h r3 (ixn x4)) (jar h_9 v_11 (ixn x4)) h_9 (pR D h_9 8 (fun v_17 h_15 => K159 r0 r1 x2 r3 (x4 + (1 : Int32)) h_15) (jth Q))))) (jth Q)))))))
theorem w_X23_work_159 {D : JD} {d : Nat} {Q : JO → JH → Prop} {K133 : Nat → Nat → Int32 → JH → Prop} {K159 : Nat → Nat → Int32 → Nat → Int32 → JH → Prop} {r0 : Nat} {r1 : Nat} {x2 : Int32} {r3 : Nat} {x4 : Int32} {h : JH} (hK133 : ∀ (r0 : Nat) (r1 : Nat) (x2 : Int32) (h : JH), K133 r0 r1 x2 h → JW D (d + 1) mX23_work 133 [some (vR 19 r0), some (vR 3 r1), some (vI x2), none, none] [] h Q) (hK159 : ∀ (r0 : Nat) (r1 : Nat) (x2 : Int32) (r3 : Nat) (x4 : Int32) (h : JH), K159 r0 r1 x2 r3 x4 h → JW D (d + 1) mX23_work 159 [some (vR 19 r0), some (vR 3 r1), some (vI x2), some (vR 76 r3), some (vI x4)] [] h Q) (w : W_X23_work_159 D d Q K133 K159 r0 r1 x2 r3 x4 h) : JW D (d + 1) mX23_work 159 [some (vR 19 r0), some (vR 3 r1), some (vI x2), some (vR 76 r3), some (vI x4)] [] h Q := by
  unfold W_X23_work_159 at w
  refine jw_iload (pc' := 161) rfl rfl ?_
  refine jw_aload_n (pc' := 162) rfl rfl ?_
  obtain ⟨g_1, w⟩ := w
  refine jw_getR (pc' := 165) (F := 107) (t' := 5) rfl rfl rfl rfl rfl g_1 ?_
  obtain ⟨g_2, w⟩ := w
  refine jw_getI (pc' := 168) (F := 44) rfl rfl rfl rfl g_2 ?_
  refine jw_icmp_ge (tgt := 193) (pc' := 171) rfl rfl (fun c_3 => ?_) (fun c_3 => ?_)
  · replace w := w.1 c_3
    refine jw_aload_n (pc' := 194) rfl rfl ?_
    refine jw_getR (pc' := 197) (F := 107) (t' := 5) rfl rfl rfl rfl rfl g_1 ?_
    refine jw_dup (pc' := 198) rfl rfl ?_
    refine jw_getI (pc' := 201) (F := 46) rfl rfl rfl rfl g_2 ?_
    refine jw_iconst (pc' := 202) (x := (1 : Int32)) rfl rfl ?_
    refine jw_iadd (pc' := 203) rfl ?_
    refine jw_putI' (pc' := 206) (F := 46) rfl rfl rfl (Or.inr rfl) (Or.inl rfl) rfl (rfl) (rfl) rfl g_2 (fun h_4 e_5 => ?_)
    replace w := w h_4 e_5
    refine jw_iinc (pc' := 209) (y := x2 + (1 : Int32)) (ls' := [some (vR 19 r0), some (vR 3 r1), some (vI (x2 + (1 : Int32))), some (vR 76 r3), some (vI x4)]) rfl (by decide) rfl rfl rfl ?_
    refine jw_goto (pc' := 133) rfl rfl ?_
    refine jw_gen (ls' := [some (vR 19 r0), some (vR 3 r1), some (vI (x2 + (1 : Int32))), none, none]) (st' := []) (And.intro (Or.inl rfl) (And.intro (Or.inl rfl) (And.intro (Or.inl rfl) (trivial)))) (trivial) ?_
    exact hK133 _ _ _ _ w
  · replace w := w.2 c_3
    refine jw_aload_n (pc' := 172) rfl rfl ?_
    refine jw_iload (pc' := 174) rfl rfl ?_
    obtain ⟨g_6, w⟩ := w
    obtain ⟨g_7, w⟩ := w
    refine jw_aald (pc' := 175) (t' := 8) rfl rfl rfl rfl g_6 g_7.ix g_7.2 ?_
    refine jw_aload_n (pc' := 176) rfl rfl ?_
    refine jw_iload_n (pc' := 177) rfl rfl ?_
    obtain ⟨g_8, w⟩ := w
    refine jw_cR (st := [vR 8 (jar h r3 (ixn x4))]) (sa := [vR 3 r1, vI x2]) okX3_scratch rfl rfl rfl rfl rfl rfl (jstp_virtual (sa := [vI x2]) (st := [vR 8 (jar h r3 (ixn x4))]) (k := 0) rfl rfl sX3_scratch okX3_scratch g_8 (one3.k g_8) rfl rfl) w (fun v_11 h_9 _ _ _ w => ?_)
    refine jw_iload (pc' := 182) rfl rfl ?_
    obtain ⟨g_12, w⟩ := w
    obtain ⟨g_13, w⟩ := w
    refine jw_aald (pc' := 183) (t' := 8) rfl rfl rfl rfl g_12 g_13.ix g_13.2 ?_
    obtain ⟨g_14, w⟩ := w
    refine jw_cR (st := []) (sa := [vR 8 (jar h r3 (ixn x4)), vR 8 (jar h_9 v_11 (ixn x4))]) okX14_copy rfl rfl rfl rfl rfl rfl (jstp_virtual (sa := [vR 8 (jar h_9 v_11 (ixn x4))]) (st := []) (k := 0) rfl rfl sX14_copy okX14_copy g_14 (one8.k g_14) rfl rfl) w (fun v_17 h_15 _ _ _ w => ?_)
    refine jw_pop (pc' := 187) rfl rfl ?_
    refine jw_iinc (pc' := 190) (y := x4 + (1 : Int32)) (ls' := [some (vR 19 r0), some (vR 3 r1), some (vI x2), some (vR 76 r3), some (vI (x4 + (1 : Int32)))]) rfl (by decide) rfl rfl rfl ?_
    refine jw_goto (pc' := 159) rfl rfl ?_
    exact hK159 _ _ _ _ _ _ w
def L_X23_work_159 (D : JD) (d : Nat) (Q : JO → JH → Prop) (K133 : Nat → Nat → Int32 → JH → Prop) : Nat → Nat → Nat → Int32 → Nat → Int32 → JH → Prop
  | 0 => fun _ _ _ _ _ _ => False
  | n + 1 => fun r0 r1 x2 r3 x4 h => W_X23_work_159 D d Q K133 (L_X23_work_159 D d Q K133 n) r0 r1 x2 r3 x4 h
theorem l_X23_work_159 {D : JD} {d : Nat} {Q : JO → JH → Prop} {K133 : Nat → Nat → Int32 → JH → Prop} (hK133 : ∀ (r0 : Nat) (r1 : Nat) (x2 : Int32) (h : JH), K133 r0 r1 x2 h → JW D (d + 1) mX23_work 133 [some (vR 19 r0), some (vR 3 r1), some (vI x2), none, none] [] h Q) : ∀ (n : Nat) (r0 : Nat) (r1 : Nat) (x2 : Int32) (r3 : Nat) (x4 : Int32) (h : JH), L_X23_work_159 D d Q K133 n r0 r1 x2 r3 x4 h → JW D (d + 1) mX23_work 159 [some (vR 19 r0), some (vR 3 r1), some (vI x2), some (vR 76 r3), some (vI x4)] [] h Q := by
  intro n
  induction n with
  | zero => intro _ _ _ _ _ _ w; exact w.elim
  | succ n ih => intro _ _ _ _ _ h w; exact w_X23_work_159 hK133 ih w
def W_X23_work_133 (D : JD) (d : Nat) (Q : JO → JH → Prop) (K133 : Nat → Nat → Int32 → JH → Prop) (r0 : Nat) (r1 : Nat) (x2 : Int32) (h : JH) : Prop :=
  r0 ≠ 0 ∧ (((jfi h 105 r0) ≤ x2 → (jfr h 107 r0) ≠ 0 ∧ (cX5_singles D d (jfr h 107 r0) h (pV D h (fun h_4 => ∀ (r_7 : Nat) (h_8 : JH), r_7 = jsz h_4 + 1 → h_8 = nwo h_4 11 4 → (cJ13_init D d r_7 h_8 (pV D h_8 (fun h_11 => cJ13_append_3 D d r_7 (jcs D 200) h_11 (pR D h_11 11 (fun v_16 h_14 => v_16 ≠ 0 ∧ (cJ13_append_2 D d v_16 (jfi h_14 105 r0) h_14 (pR D h_14 11 (fun v_20 h_18 => v_20 ≠ 0 ∧ (cJ13_toString D d v_20 h_18 (pR D h_18 64 (fun v_24 h_22 => Q (.inl (some (vR 64 v_24))) h_22) (jth Q)))) (jth Q)))) (jth Q))) (jth Q)))) (fun x_25 h_26 => (jkd h_26 x_25 = 9 ∧ (jfr h_26 107 r0) ≠ 0 ∧ (∀ h_29 : JH, h_29 = wfi h_26 46 (jfr h_26 107 r0) ((jfi h_26 46 (jfr h_26 107 r0)) - (jfi h_26 105 r0)) → (x_25 ≠ 0 ∧ (Q (.inr x_25) h_29)))))))) ∧ (¬ (jfi h 105 r0) ≤ x2 → (jfr h 107 r0) ≠ 0 ∧ (cX5_row D d (jfr h 107 r0) (jfi h 46 (jfr h 107 r0)) h (pR D h 76 (fun v_35 h_33 => ∃ n, L_X23_work_159 D d Q K133 n r0 r1 x2 v_35 (0 : Int32) h_33) (jth Q)))))
theorem w_X23_work_133 {D : JD} {d : Nat} {Q : JO → JH → Prop} {K133 : Nat → Nat → Int32 → JH → Prop} {r0 : Nat} {r1 : Nat} {x2 : Int32} {h : JH} (hK133 : ∀ (r0 : Nat) (r1 : Nat) (x2 : Int32) (h : JH), K133 r0 r1 x2 h → JW D (d + 1) mX23_work 133 [some (vR 19 r0), some (vR 3 r1), some (vI x2), none, none] [] h Q) (w : W_X23_work_133 D d Q K133 r0 r1 x2 h) : JW D (d + 1) mX23_work 133 [some (vR 19 r0), some (vR 3 r1), some (vI x2), none, none] [] h Q := by
  unfold W_X23_work_133 at w
  refine jw_iload_n (pc' := 134) rfl rfl ?_
  refine jw_aload_n (pc' := 135) rfl rfl ?_
  obtain ⟨g_1, w⟩ := w
  refine jw_getI (pc' := 138) (F := 105) rfl rfl rfl rfl g_1 ?_
  refine jw_icmp_ge (tgt := 212) (pc' := 141) rfl rfl (fun c_2 => ?_) (fun c_2 => ?_)
  · replace w := w.1 c_2
    refine jw_aload_n (pc' := 213) rfl rfl ?_
    refine jw_getR (pc' := 216) (F := 107) (t' := 5) rfl rfl rfl rfl rfl g_1 ?_
    obtain ⟨g_3, w⟩ := w
    refine jw_cVH (st := []) (sa := [vR 5 (jfr h 107 r0)]) okX5_singles rfl rfl rfl rfl rfl (jstp_virtual (sa := []) (st := []) (k := 0) rfl rfl sX5_singles okX5_singles g_3 (one5.k g_3) rfl rfl) w (fun h_4 _ _ w => ?_) (fun x_25 h_26 _ _ w => ?_)
    · refine jw_goto (pc' := 241) rfl rfl ?_
      refine jw_new' (pc' := 244) (k := 11) (n := 4) rfl rfl rfl rfl rfl rfl rfl (fun r_7 h_8 e_9 e_10 => ?_)
      replace w := w r_7 h_8 e_9 e_10
      refine jw_dup (pc' := 245) rfl rfl ?_
      refine jw_cV (st := [vR 11 r_7]) (sa := [vR 11 r_7]) okJ13_init rfl rfl rfl rfl rfl rfl (jstp_init (sa := []) (st := [vR 11 r_7]) rfl rfl sJ13_init okJ13_init (lw_g (jtb_mem (c := 3) (i := 134) rfl) rfl) (jnz e_9) rfl rfl) w (fun h_11 _ _ w => ?_)
      refine jw_ldcS (pc' := 250) rfl rfl rfl rfl ?_
      refine jw_cR (st := []) (sa := [vR 11 r_7, vR 51 (jcs D 200)]) okJ13_append_3 rfl rfl rfl rfl rfl rfl (jstp_virtual (sa := [vR 51 (jcs D 200)]) (st := []) (k := 0) rfl rfl sJ13_append_3 okJ13_append_3 (jnz e_9) (one11.k (jnz e_9)) rfl rfl) w (fun v_16 h_14 _ _ _ w => ?_)
      refine jw_aload_n (pc' := 254) rfl rfl ?_
      refine jw_getI (pc' := 257) (F := 105) rfl rfl rfl rfl g_1 ?_
      obtain ⟨g_17, w⟩ := w
      refine jw_cR (st := []) (sa := [vR 11 v_16, vI (jfi h_14 105 r0)]) okJ13_append_2 rfl rfl rfl rfl rfl rfl (jstp_virtual (sa := [vI (jfi h_14 105 r0)]) (st := []) (k := 0) rfl rfl sJ13_append_2 okJ13_append_2 g_17 (one11.k g_17) rfl rfl) w (fun v_20 h_18 _ _ _ w => ?_)
      obtain ⟨g_21, w⟩ := w
      refine jw_cR (st := []) (sa := [vR 11 v_20]) okJ13_toString rfl rfl rfl rfl rfl rfl (jstp_virtual (sa := []) (st := []) (k := 0) rfl rfl sJ13_toString okJ13_toString g_21 (one11.k g_21) rfl rfl) w (fun v_24 h_22 _ _ _ w => ?_)
      exact jw_areturn rfl rfl rfl rfl rfl w
    · obtain ⟨e_27, w⟩ := w
      refine ⟨222, by rw [e_27]; rfl, by rw [e_27]; rfl, ?_⟩
      rw [e_27]
      refine jw_astore_n (pc' := 223) (ls' := [some (vR 19 r0), some (vR 3 r1), some (vR 9 x_25), none, none]) rfl (by decide) rfl ?_
      refine jw_aload_n (pc' := 224) rfl rfl ?_
      refine jw_getR (pc' := 227) (F := 107) (t' := 5) rfl rfl rfl rfl rfl g_1 ?_
      refine jw_dup (pc' := 228) rfl rfl ?_
      obtain ⟨g_28, w⟩ := w
      refine jw_getI (pc' := 231) (F := 46) rfl rfl rfl rfl g_28 ?_
      refine jw_aload_n (pc' := 232) rfl rfl ?_
      refine jw_getI (pc' := 235) (F := 105) rfl rfl rfl rfl g_1 ?_
      refine jw_isub (pc' := 236) rfl ?_
      refine jw_putI' (pc' := 239) (F := 46) rfl rfl rfl (Or.inr rfl) (Or.inl rfl) rfl (rfl) (rfl) rfl g_28 (fun h_29 e_30 => ?_)
      replace w := w h_29 e_30
      refine jw_aload_n (pc' := 240) rfl rfl ?_
      obtain ⟨g_31, w⟩ := w
      exact jw_athrow rfl rfl g_31 w
  · replace w := w.2 c_2
    refine jw_aload_n (pc' := 142) rfl rfl ?_
    refine jw_getR (pc' := 145) (F := 107) (t' := 5) rfl rfl rfl rfl rfl g_1 ?_
    refine jw_aload_n (pc' := 146) rfl rfl ?_
    refine jw_getR (pc' := 149) (F := 107) (t' := 5) rfl rfl rfl rfl rfl g_1 ?_
    obtain ⟨g_32, w⟩ := w
    refine jw_getI (pc' := 152) (F := 46) rfl rfl rfl rfl g_32 ?_
    refine jw_cR (st := []) (sa := [vR 5 (jfr h 107 r0), vI (jfi h 46 (jfr h 107 r0))]) okX5_row rfl rfl rfl rfl rfl rfl (jstp_virtual (sa := [vI (jfi h 46 (jfr h 107 r0))]) (st := []) (k := 0) rfl rfl sX5_row okX5_row g_32 (one5.k g_32) rfl rfl) w (fun v_35 h_33 _ _ _ w => ?_)
    refine jw_astore_n (pc' := 156) (ls' := [some (vR 19 r0), some (vR 3 r1), some (vI x2), some (vR 76 v_35), none]) rfl (by decide) rfl ?_
    refine jw_iconst (pc' := 157) (x := (0 : Int32)) rfl rfl ?_
    refine jw_istore (pc' := 159) (ls' := [some (vR 19 r0), some (vR 3 r1), some (vI x2), some (vR 76 v_35), some (vI (0 : Int32))]) rfl (by decide) rfl ?_
    obtain ⟨n, w⟩ := w
    exact l_X23_work_159 hK133 n _ _ _ _ _ _ w
def L_X23_work_133 (D : JD) (d : Nat) (Q : JO → JH → Prop) : Nat → Nat → Nat → Int32 → JH → Prop
  | 0 => fun _ _ _ _ => False
  | n + 1 => fun r0 r1 x2 h => W_X23_work_133 D d Q (L_X23_work_133 D d Q n) r0 r1 x2 h
theorem l_X23_work_133 {D : JD} {d : Nat} {Q : JO → JH → Prop} : ∀ (n : Nat) (r0 : Nat) (r1 : Nat) (x2 : Int32) (h : JH), L_X23_work_133 D d Q n r0 r1 x2 h → JW D (d + 1) mX23_work 133 [some (vR 19 r0), some (vR 3 r1), some (vI x2), none, none] [] h Q := by
  intro n
  induction n with
  | zero => intro _ _ _ _ w; exact w.elim
  | succ n ih => intro _ _ _ h w; exact w_X23_work_133 ih w
def W_X23_work_84 (D : JD) (d : Nat) (Q : JO → JH → Prop) (K2 : Nat → Nat → Int32 → JH → Prop) (K48 : Nat → Nat → Int32 → Nat → Int32 → JH → Prop) (r0 : Nat) (r1 : Nat) (x2 : Int32) (r3 : Nat) (x4 : Int32) (q0 : Nat) (q1 : Nat) (h : JH) : Prop :=
  q0 ≠ 0 ∧ (cX14_copy D d q0 q1 h (pR D h 8 (fun v_4 h_2 => K48 r0 r1 x2 r3 (x4 + (1 : Int32)) h_2) (jth Q)))
theorem w_X23_work_84 {D : JD} {d : Nat} {Q : JO → JH → Prop} {K2 : Nat → Nat → Int32 → JH → Prop} {K48 : Nat → Nat → Int32 → Nat → Int32 → JH → Prop} {r0 : Nat} {r1 : Nat} {x2 : Int32} {r3 : Nat} {x4 : Int32} {q0 : Nat} {q1 : Nat} {h : JH} (hK2 : ∀ (r0 : Nat) (r1 : Nat) (x2 : Int32) (h : JH), K2 r0 r1 x2 h → JW D (d + 1) mX23_work 2 [some (vR 19 r0), some (vR 3 r1), some (vI x2), none, none] [] h Q) (hK48 : ∀ (r0 : Nat) (r1 : Nat) (x2 : Int32) (r3 : Nat) (x4 : Int32) (h : JH), K48 r0 r1 x2 r3 x4 h → JW D (d + 1) mX23_work 48 [some (vR 19 r0), some (vR 3 r1), some (vI x2), some (vR 76 r3), some (vI x4)] [] h Q) (w : W_X23_work_84 D d Q K2 K48 r0 r1 x2 r3 x4 q0 q1 h) : JW D (d + 1) mX23_work 84 [some (vR 19 r0), some (vR 3 r1), some (vI x2), some (vR 76 r3), some (vI x4)] [vR 8 q1, vR 8 q0] h Q := by
  unfold W_X23_work_84 at w
  obtain ⟨g_1, w⟩ := w
  refine jw_cR (st := []) (sa := [vR 8 q0, vR 8 q1]) okX14_copy rfl rfl rfl rfl rfl rfl (jstp_virtual (sa := [vR 8 q1]) (st := []) (k := 0) rfl rfl sX14_copy okX14_copy g_1 (one8.k g_1) rfl rfl) w (fun v_4 h_2 _ _ _ w => ?_)
  refine jw_pop (pc' := 88) rfl rfl ?_
  refine jw_iinc (pc' := 91) (y := x4 + (1 : Int32)) (ls' := [some (vR 19 r0), some (vR 3 r1), some (vI x2), some (vR 76 r3), some (vI (x4 + (1 : Int32)))]) rfl (by decide) rfl rfl rfl ?_
  refine jw_goto (pc' := 48) rfl rfl ?_
  exact hK48 _ _ _ _ _ _ w
def W_X23_work_48 (D : JD) (d : Nat) (Q : JO → JH → Prop) (K2 : Nat → Nat → Int32 → JH → Prop) (K48 : Nat → Nat → Int32 → Nat → Int32 → JH → Prop) (r0 : Nat) (r1 : Nat) (x2 : Int32) (r3 : Nat) (x4 : Int32) (h : JH) : Prop :=
  r0 ≠ 0 ∧ ((jfr h 104 r0) ≠ 0 ∧ jin x2 (jln h (jfr h 104 r0)) ∧ (((jai h (jfr h 104 r0) (ixn x2)) ≤ x4 → (jfr h 107 r0) ≠ 0 ∧ (cX5_missing D d (jfr h 107 r0) r3 h (pV D h (fun h_6 => K2 r0 r1 (x2 + (1 : Int32)) h_6) (jth Q)))) ∧ (¬ (jai h (jfr h 104 r0) (ixn x2)) ≤ x4 → (jfr h 106 r0) ≠ 0 ∧ jin x4 (jln h (jfr h 106 r0)) ∧ (r3 ≠ 0 ∧ jin (jai h (jfr h 106 r0) (ixn x4)) (jln h r3) ∧ ((jfr h 103 r0) ≠ 0 ∧ jin x2 (jln h (jfr h 103 r0)) ∧ ((jar h (jfr h 103 r0) (ixn x2)) ≠ 0 ∧ jin x4 (jln h (jar h (jfr h 103 r0) (ixn x2))) ∧ (r1 ≠ 0 ∧ ((jar h (jar h (jfr h 103 r0) (ixn x2)) (ixn x4)) ≠ 0 ∧ (v55_at D d (jar h (jar h (jfr h 103 r0) (ixn x2)) (ixn x4)) (jfr h 23 r1) h (pR D h 8 (fun v_21 h_19 => W_X23_work_84 D d Q K2 K48 r0 r1 x2 r3 x4 (jar h r3 (ixn (jai h (jfr h 106 r0) (ixn x4)))) v_21 h_19) (jth Q)))))))))))
theorem w_X23_work_48 {D : JD} {d : Nat} {Q : JO → JH → Prop} {K2 : Nat → Nat → Int32 → JH → Prop} {K48 : Nat → Nat → Int32 → Nat → Int32 → JH → Prop} {r0 : Nat} {r1 : Nat} {x2 : Int32} {r3 : Nat} {x4 : Int32} {h : JH} (hK2 : ∀ (r0 : Nat) (r1 : Nat) (x2 : Int32) (h : JH), K2 r0 r1 x2 h → JW D (d + 1) mX23_work 2 [some (vR 19 r0), some (vR 3 r1), some (vI x2), none, none] [] h Q) (hK48 : ∀ (r0 : Nat) (r1 : Nat) (x2 : Int32) (r3 : Nat) (x4 : Int32) (h : JH), K48 r0 r1 x2 r3 x4 h → JW D (d + 1) mX23_work 48 [some (vR 19 r0), some (vR 3 r1), some (vI x2), some (vR 76 r3), some (vI x4)] [] h Q) (w : W_X23_work_48 D d Q K2 K48 r0 r1 x2 r3 x4 h) : JW D (d + 1) mX23_work 48 [some (vR 19 r0), some (vR 3 r1), some (vI x2), some (vR 76 r3), some (vI x4)] [] h Q := by
  unfold W_X23_work_48 at w
  refine jw_iload (pc' := 50) rfl rfl ?_
  refine jw_aload_n (pc' := 51) rfl rfl ?_
  obtain ⟨g_1, w⟩ := w
  refine jw_getR (pc' := 54) (F := 104) (t' := 147) rfl rfl rfl rfl rfl g_1 ?_
  refine jw_iload_n (pc' := 55) rfl rfl ?_
  obtain ⟨g_2, w⟩ := w
  obtain ⟨g_3, w⟩ := w
  refine jw_iald (pc' := 56) rfl rfl rfl rfl g_2 g_3.ix g_3.2 ?_
  refine jw_icmp_ge (tgt := 94) (pc' := 59) rfl rfl (fun c_4 => ?_) (fun c_4 => ?_)
  · replace w := w.1 c_4
    refine jw_aload_n (pc' := 95) rfl rfl ?_
    refine jw_getR (pc' := 98) (F := 107) (t' := 5) rfl rfl rfl rfl rfl g_1 ?_
    refine jw_aload_n (pc' := 99) rfl rfl ?_
    obtain ⟨g_5, w⟩ := w
    refine jw_cV (st := []) (sa := [vR 5 (jfr h 107 r0), vR 76 r3]) okX5_missing rfl rfl rfl rfl rfl rfl (jstp_virtual (sa := [vR 76 r3]) (st := []) (k := 0) rfl rfl sX5_missing okX5_missing g_5 (one5.k g_5) rfl rfl) w (fun h_6 _ _ w => ?_)
    refine jw_iinc (pc' := 105) (y := x2 + (1 : Int32)) (ls' := [some (vR 19 r0), some (vR 3 r1), some (vI (x2 + (1 : Int32))), some (vR 76 r3), some (vI x4)]) rfl (by decide) rfl rfl rfl ?_
    refine jw_goto (pc' := 2) rfl rfl ?_
    refine jw_gen (ls' := [some (vR 19 r0), some (vR 3 r1), some (vI (x2 + (1 : Int32))), none, none]) (st' := []) (And.intro (Or.inl rfl) (And.intro (Or.inl rfl) (And.intro (Or.inl rfl) (trivial)))) (trivial) ?_
    exact hK2 _ _ _ _ w
  · replace w := w.2 c_4
    refine jw_aload_n (pc' := 60) rfl rfl ?_
    refine jw_aload_n (pc' := 61) rfl rfl ?_
    refine jw_getR (pc' := 64) (F := 106) (t' := 148) rfl rfl rfl rfl rfl g_1 ?_
    refine jw_iload (pc' := 66) rfl rfl ?_
    obtain ⟨g_9, w⟩ := w
    obtain ⟨g_10, w⟩ := w
    refine jw_iald (pc' := 67) rfl rfl rfl rfl g_9 g_10.ix g_10.2 ?_
    obtain ⟨g_11, w⟩ := w
    obtain ⟨g_12, w⟩ := w
    refine jw_aald (pc' := 68) (t' := 8) rfl rfl rfl rfl g_11 g_12.ix g_12.2 ?_
    refine jw_aload_n (pc' := 69) rfl rfl ?_
    refine jw_getR (pc' := 72) (F := 103) (t' := 146) rfl rfl rfl rfl rfl g_1 ?_
    refine jw_iload_n (pc' := 73) rfl rfl ?_
    obtain ⟨g_13, w⟩ := w
    obtain ⟨g_14, w⟩ := w
    refine jw_aald (pc' := 74) (t' := 77) rfl rfl rfl rfl g_13 g_14.ix g_14.2 ?_
    refine jw_iload (pc' := 76) rfl rfl ?_
    obtain ⟨g_15, w⟩ := w
    obtain ⟨g_16, w⟩ := w
    refine jw_aald (pc' := 77) (t' := 55) rfl rfl rfl rfl g_15 g_16.ix g_16.2 ?_
    refine jw_aload_n (pc' := 78) rfl rfl ?_
    obtain ⟨g_17, w⟩ := w
    refine jw_getR (pc' := 81) (F := 23) (t' := 6) rfl rfl rfl rfl rfl g_17 ?_
    obtain ⟨g_18, w⟩ := w
    refine JW.inv (fun hI => JW.oks (fun ho => ?_))
    have hkd := und55.k hI (ho (vR 55 (jar h (jar h (jfr h 103 r0) (ixn x2)) (ixn x4))) (by simp)) g_18
    simp only [List.mem_cons, List.not_mem_nil, or_false] at hkd
    clear ho hI
    rcases hkd with e_22 | e_22 | e_22 | e_22 | e_22 | e_22 | e_22 | e_22 | e_22 | e_22
    · refine jw_gen (ls' := _) (st' := [vR 6 (jfr h 23 r1), vR 20 (jar h (jar h (jfr h 103 r0) (ixn x2)) (ixn x4)), vR 8 (jar h r3 (ixn (jai h (jfr h 106 r0) (ixn x4))))]) (jgl_rf _ _) (And.intro (Or.inl rfl) (And.intro (Or.inr ⟨_, _, _, rfl, rfl, Or.inr (Or.inr (by rw [e_22]; rfl))⟩) (jgs_rf _ _))) ?_
      refine jw_cR (st := [vR 8 (jar h r3 (ixn (jai h (jfr h 106 r0) (ixn x4))))]) (sa := [vR 20 (jar h (jar h (jfr h 103 r0) (ixn x2)) (ixn x4)), vR 6 (jfr h 23 r1)]) okX25_at rfl rfl rfl rfl rfl rfl (jstp_up (sa := [vR 6 (jfr h 23 r1)]) (st := [vR 8 (jar h r3 (ixn (jai h (jfr h 106 r0) (ixn x4))))]) rfl (lw_g (jtb_mem (c := 12) (i := 197) rfl) rfl) um28 okX25_at g_18 (fun _ _ => by rw [e_22]; exact ⟨rfl, rfl⟩) rfl rfl) (w.1 e_22) (fun v_21 h_19 _ _ _ w => ?_)
      exact w_X23_work_84 hK2 hK48 w
    · refine jw_gen (ls' := _) (st' := [vR 6 (jfr h 23 r1), vR 21 (jar h (jar h (jfr h 103 r0) (ixn x2)) (ixn x4)), vR 8 (jar h r3 (ixn (jai h (jfr h 106 r0) (ixn x4))))]) (jgl_rf _ _) (And.intro (Or.inl rfl) (And.intro (Or.inr ⟨_, _, _, rfl, rfl, Or.inr (Or.inr (by rw [e_22]; rfl))⟩) (jgs_rf _ _))) ?_
      refine jw_cR (st := [vR 8 (jar h r3 (ixn (jai h (jfr h 106 r0) (ixn x4))))]) (sa := [vR 21 (jar h (jar h (jfr h 103 r0) (ixn x2)) (ixn x4)), vR 6 (jfr h 23 r1)]) okX27_at rfl rfl rfl rfl rfl rfl (jstp_up (sa := [vR 6 (jfr h 23 r1)]) (st := [vR 8 (jar h r3 (ixn (jai h (jfr h 106 r0) (ixn x4))))]) rfl (lw_g (jtb_mem (c := 12) (i := 197) rfl) rfl) um29 okX27_at g_18 (fun _ _ => by rw [e_22]; exact ⟨rfl, rfl⟩) rfl rfl) (w.2.1 e_22) (fun v_21 h_19 _ _ _ w => ?_)
      exact w_X23_work_84 hK2 hK48 w
    · refine jw_gen (ls' := _) (st' := [vR 6 (jfr h 23 r1), vR 22 (jar h (jar h (jfr h 103 r0) (ixn x2)) (ixn x4)), vR 8 (jar h r3 (ixn (jai h (jfr h 106 r0) (ixn x4))))]) (jgl_rf _ _) (And.intro (Or.inl rfl) (And.intro (Or.inr ⟨_, _, _, rfl, rfl, Or.inr (Or.inr (by rw [e_22]; rfl))⟩) (jgs_rf _ _))) ?_
      refine jw_cR (st := [vR 8 (jar h r3 (ixn (jai h (jfr h 106 r0) (ixn x4))))]) (sa := [vR 22 (jar h (jar h (jfr h 103 r0) (ixn x2)) (ixn x4)), vR 6 (jfr h 23 r1)]) okX28_at rfl rfl rfl rfl rfl rfl (jstp_up (sa := [vR 6 (jfr h 23 r1)]) (st := [vR 8 (jar h r3 (ixn (jai h (jfr h 106 r0) (ixn x4))))]) rfl (lw_g (jtb_mem (c := 12) (i := 197) rfl) rfl) um30 okX28_at g_18 (fun _ _ => by rw [e_22]; exact ⟨rfl, rfl⟩) rfl rfl) (w.2.2.1 e_22) (fun v_21 h_19 _ _ _ w => ?_)
      exact w_X23_work_84 hK2 hK48 w
    · refine jw_gen (ls' := _) (st' := [vR 6 (jfr h 23 r1), vR 23 (jar h (jar h (jfr h 103 r0) (ixn x2)) (ixn x4)), vR 8 (jar h r3 (ixn (jai h (jfr h 106 r0) (ixn x4))))]) (jgl_rf _ _) (And.intro (Or.inl rfl) (And.intro (Or.inr ⟨_, _, _, rfl, rfl, Or.inr (Or.inr (by rw [e_22]; rfl))⟩) (jgs_rf _ _))) ?_
      refine jw_cR (st := [vR 8 (jar h r3 (ixn (jai h (jfr h 106 r0) (ixn x4))))]) (sa := [vR 23 (jar h (jar h (jfr h 103 r0) (ixn x2)) (ixn x4)), vR 6 (jfr h 23 r1)]) okX29_at rfl rfl rfl rfl rfl rfl (jstp_up (sa := [vR 6 (jfr h 23 r1)]) (st := [vR 8 (jar h r3 (ixn (jai h (jfr h 106 r0) (ixn x4))))]) rfl (lw_g (jtb_mem (c := 12) (i := 197) rfl) rfl) um31 okX29_at g_18 (fun _ _ => by rw [e_22]; exact ⟨rfl, rfl⟩) rfl rfl) (w.2.2.2.1 e_22) (fun v_21 h_19 _ _ _ w => ?_)
      exact w_X23_work_84 hK2 hK48 w
    · refine jw_gen (ls' := _) (st' := [vR 6 (jfr h 23 r1), vR 24 (jar h (jar h (jfr h 103 r0) (ixn x2)) (ixn x4)), vR 8 (jar h r3 (ixn (jai h (jfr h 106 r0) (ixn x4))))]) (jgl_rf _ _) (And.intro (Or.inl rfl) (And.intro (Or.inr ⟨_, _, _, rfl, rfl, Or.inr (Or.inr (by rw [e_22]; rfl))⟩) (jgs_rf _ _))) ?_
      refine jw_cR (st := [vR 8 (jar h r3 (ixn (jai h (jfr h 106 r0) (ixn x4))))]) (sa := [vR 24 (jar h (jar h (jfr h 103 r0) (ixn x2)) (ixn x4)), vR 6 (jfr h 23 r1)]) okX30_at rfl rfl rfl rfl rfl rfl (jstp_up (sa := [vR 6 (jfr h 23 r1)]) (st := [vR 8 (jar h r3 (ixn (jai h (jfr h 106 r0) (ixn x4))))]) rfl (lw_g (jtb_mem (c := 12) (i := 197) rfl) rfl) um32 okX30_at g_18 (fun _ _ => by rw [e_22]; exact ⟨rfl, rfl⟩) rfl rfl) (w.2.2.2.2.1 e_22) (fun v_21 h_19 _ _ _ w => ?_)
      exact w_X23_work_84 hK2 hK48 w
    · refine jw_gen (ls' := _) (st' := [vR 6 (jfr h 23 r1), vR 25 (jar h (jar h (jfr h 103 r0) (ixn x2)) (ixn x4)), vR 8 (jar h r3 (ixn (jai h (jfr h 106 r0) (ixn x4))))]) (jgl_rf _ _) (And.intro (Or.inl rfl) (And.intro (Or.inr ⟨_, _, _, rfl, rfl, Or.inr (Or.inr (by rw [e_22]; rfl))⟩) (jgs_rf _ _))) ?_
      refine jw_cR (st := [vR 8 (jar h r3 (ixn (jai h (jfr h 106 r0) (ixn x4))))]) (sa := [vR 25 (jar h (jar h (jfr h 103 r0) (ixn x2)) (ixn x4)), vR 6 (jfr h 23 r1)]) okX31_at rfl rfl rfl rfl rfl rfl (jstp_up (sa := [vR 6 (jfr h 23 r1)]) (st := [vR 8 (jar h r3 (ixn (jai h (jfr h 106 r0) (ixn x4))))]) rfl (lw_g (jtb_mem (c := 12) (i := 197) rfl) rfl) um33 okX31_at g_18 (fun _ _ => by rw [e_22]; exact ⟨rfl, rfl⟩) rfl rfl) (w.2.2.2.2.2.1 e_22) (fun v_21 h_19 _ _ _ w => ?_)
      exact w_X23_work_84 hK2 hK48 w
    · refine jw_gen (ls' := _) (st' := [vR 6 (jfr h 23 r1), vR 26 (jar h (jar h (jfr h 103 r0) (ixn x2)) (ixn x4)), vR 8 (jar h r3 (ixn (jai h (jfr h 106 r0) (ixn x4))))]) (jgl_rf _ _) (And.intro (Or.inl rfl) (And.intro (Or.inr ⟨_, _, _, rfl, rfl, Or.inr (Or.inr (by rw [e_22]; rfl))⟩) (jgs_rf _ _))) ?_
      refine jw_cR (st := [vR 8 (jar h r3 (ixn (jai h (jfr h 106 r0) (ixn x4))))]) (sa := [vR 26 (jar h (jar h (jfr h 103 r0) (ixn x2)) (ixn x4)), vR 6 (jfr h 23 r1)]) okX32_at rfl rfl rfl rfl rfl rfl (jstp_up (sa := [vR 6 (jfr h 23 r1)]) (st := [vR 8 (jar h r3 (ixn (jai h (jfr h 106 r0) (ixn x4))))]) rfl (lw_g (jtb_mem (c := 12) (i := 197) rfl) rfl) um34 okX32_at g_18 (fun _ _ => by rw [e_22]; exact ⟨rfl, rfl⟩) rfl rfl) (w.2.2.2.2.2.2.1 e_22) (fun v_21 h_19 _ _ _ w => ?_)
      exact w_X23_work_84 hK2 hK48 w
    · refine jw_gen (ls' := _) (st' := [vR 6 (jfr h 23 r1), vR 27 (jar h (jar h (jfr h 103 r0) (ixn x2)) (ixn x4)), vR 8 (jar h r3 (ixn (jai h (jfr h 106 r0) (ixn x4))))]) (jgl_rf _ _) (And.intro (Or.inl rfl) (And.intro (Or.inr ⟨_, _, _, rfl, rfl, Or.inr (Or.inr (by rw [e_22]; rfl))⟩) (jgs_rf _ _))) ?_
      refine jw_cR (st := [vR 8 (jar h r3 (ixn (jai h (jfr h 106 r0) (ixn x4))))]) (sa := [vR 27 (jar h (jar h (jfr h 103 r0) (ixn x2)) (ixn x4)), vR 6 (jfr h 23 r1)]) okX33_at rfl rfl rfl rfl rfl rfl (jstp_up (sa := [vR 6 (jfr h 23 r1)]) (st := [vR 8 (jar h r3 (ixn (jai h (jfr h 106 r0) (ixn x4))))]) rfl (lw_g (jtb_mem (c := 12) (i := 197) rfl) rfl) um35 okX33_at g_18 (fun _ _ => by rw [e_22]; exact ⟨rfl, rfl⟩) rfl rfl) (w.2.2.2.2.2.2.2.1 e_22) (fun v_21 h_19 _ _ _ w => ?_)
      exact w_X23_work_84 hK2 hK48 w
    · refine jw_gen (ls' := _) (st' := [vR 6 (jfr h 23 r1), vR 28 (jar h (jar h (jfr h 103 r0) (ixn x2)) (ixn x4)), vR 8 (jar h r3 (ixn (jai h (jfr h 106 r0) (ixn x4))))]) (jgl_rf _ _) (And.intro (Or.inl rfl) (And.intro (Or.inr ⟨_, _, _, rfl, rfl, Or.inr (Or.inr (by rw [e_22]; rfl))⟩) (jgs_rf _ _))) ?_
      refine jw_cR (st := [vR 8 (jar h r3 (ixn (jai h (jfr h 106 r0) (ixn x4))))]) (sa := [vR 28 (jar h (jar h (jfr h 103 r0) (ixn x2)) (ixn x4)), vR 6 (jfr h 23 r1)]) okX34_at rfl rfl rfl rfl rfl rfl (jstp_up (sa := [vR 6 (jfr h 23 r1)]) (st := [vR 8 (jar h r3 (ixn (jai h (jfr h 106 r0) (ixn x4))))]) rfl (lw_g (jtb_mem (c := 12) (i := 197) rfl) rfl) um36 okX34_at g_18 (fun _ _ => by rw [e_22]; exact ⟨rfl, rfl⟩) rfl rfl) (w.2.2.2.2.2.2.2.2.1 e_22) (fun v_21 h_19 _ _ _ w => ?_)
      exact w_X23_work_84 hK2 hK48 w
    · refine jw_gen (ls' := _) (st' := [vR 6 (jfr h 23 r1), vR 29 (jar h (jar h (jfr h 103 r0) (ixn x2)) (ixn x4)), vR 8 (jar h r3 (ixn (jai h (jfr h 106 r0) (ixn x4))))]) (jgl_rf _ _) (And.intro (Or.inl rfl) (And.intro (Or.inr ⟨_, _, _, rfl, rfl, Or.inr (Or.inr (by rw [e_22]; rfl))⟩) (jgs_rf _ _))) ?_
      refine jw_cR (st := [vR 8 (jar h r3 (ixn (jai h (jfr h 106 r0) (ixn x4))))]) (sa := [vR 29 (jar h (jar h (jfr h 103 r0) (ixn x2)) (ixn x4)), vR 6 (jfr h 23 r1)]) okX35_at rfl rfl rfl rfl rfl rfl (jstp_up (sa := [vR 6 (jfr h 23 r1)]) (st := [vR 8 (jar h r3 (ixn (jai h (jfr h 106 r0) (ixn x4))))]) rfl (lw_g (jtb_mem (c := 12) (i := 197) rfl) rfl) um37 okX35_at g_18 (fun _ _ => by rw [e_22]; exact ⟨rfl, rfl⟩) rfl rfl) (w.2.2.2.2.2.2.2.2.2 e_22) (fun v_21 h_19 _ _ _ w => ?_)
      exact w_X23_work_84 hK2 hK48 w
def L_X23_work_48 (D : JD) (d : Nat) (Q : JO → JH → Prop) (K2 : Nat → Nat → Int32 → JH → Prop) : Nat → Nat → Nat → Int32 → Nat → Int32 → JH → Prop
  | 0 => fun _ _ _ _ _ _ => False
  | n + 1 => fun r0 r1 x2 r3 x4 h => W_X23_work_48 D d Q K2 (L_X23_work_48 D d Q K2 n) r0 r1 x2 r3 x4 h
theorem l_X23_work_48 {D : JD} {d : Nat} {Q : JO → JH → Prop} {K2 : Nat → Nat → Int32 → JH → Prop} (hK2 : ∀ (r0 : Nat) (r1 : Nat) (x2 : Int32) (h : JH), K2 r0 r1 x2 h → JW D (d + 1) mX23_work 2 [some (vR 19 r0), some (vR 3 r1), some (vI x2), none, none] [] h Q) : ∀ (n : Nat) (r0 : Nat) (r1 : Nat) (x2 : Int32) (r3 : Nat) (x4 : Int32) (h : JH), L_X23_work_48 D d Q K2 n r0 r1 x2 r3 x4 h → JW D (d + 1) mX23_work 48 [some (vR 19 r0), some (vR 3 r1), some (vI x2), some (vR 76 r3), some (vI x4)] [] h Q := by
  intro n
  induction n with
  | zero => intro _ _ _ _ _ _ w; exact w.elim
  | succ n ih => intro _ _ _ _ _ h w; exact w_X23_work_48 hK2 ih w
def W_X23_work_19 (D : JD) (d : Nat) (Q : JO → JH → Prop) (K2 : Nat → Nat → Int32 → JH → Prop) (K19 : Nat → Nat → Int32 → Nat → Int32 → JH → Prop) (r0 : Nat) (r1 : Nat) (x2 : Int32) (r3 : Nat) (x4 : Int32) (h : JH) : Prop :=
  r0 ≠ 0 ∧ ((jfr h 107 r0) ≠ 0 ∧ (((jfi h 44 (jfr h 107 r0)) ≤ x4 → ∃ n, L_X23_work_48 D d Q K2 n r0 r1 x2 r3 (0 : Int32) h) ∧ (¬ (jfi h 44 (jfr h 107 r0)) ≤ x4 → r3 ≠ 0 ∧ jin x4 (jln h r3) ∧ ((jar h r3 (ixn x4)) ≠ 0 ∧ (cX14_none D d (jar h r3 (ixn x4)) h (pR D h 8 (fun v_9 h_7 => K19 r0 r1 x2 r3 (x4 + (1 : Int32)) h_7) (jth Q)))))))
theorem w_X23_work_19 {D : JD} {d : Nat} {Q : JO → JH → Prop} {K2 : Nat → Nat → Int32 → JH → Prop} {K19 : Nat → Nat → Int32 → Nat → Int32 → JH → Prop} {r0 : Nat} {r1 : Nat} {x2 : Int32} {r3 : Nat} {x4 : Int32} {h : JH} (hK2 : ∀ (r0 : Nat) (r1 : Nat) (x2 : Int32) (h : JH), K2 r0 r1 x2 h → JW D (d + 1) mX23_work 2 [some (vR 19 r0), some (vR 3 r1), some (vI x2), none, none] [] h Q) (hK19 : ∀ (r0 : Nat) (r1 : Nat) (x2 : Int32) (r3 : Nat) (x4 : Int32) (h : JH), K19 r0 r1 x2 r3 x4 h → JW D (d + 1) mX23_work 19 [some (vR 19 r0), some (vR 3 r1), some (vI x2), some (vR 76 r3), some (vI x4)] [] h Q) (w : W_X23_work_19 D d Q K2 K19 r0 r1 x2 r3 x4 h) : JW D (d + 1) mX23_work 19 [some (vR 19 r0), some (vR 3 r1), some (vI x2), some (vR 76 r3), some (vI x4)] [] h Q := by
  unfold W_X23_work_19 at w
  refine jw_iload (pc' := 21) rfl rfl ?_
  refine jw_aload_n (pc' := 22) rfl rfl ?_
  obtain ⟨g_1, w⟩ := w
  refine jw_getR (pc' := 25) (F := 107) (t' := 5) rfl rfl rfl rfl rfl g_1 ?_
  obtain ⟨g_2, w⟩ := w
  refine jw_getI (pc' := 28) (F := 44) rfl rfl rfl rfl g_2 ?_
  refine jw_icmp_ge (tgt := 45) (pc' := 31) rfl rfl (fun c_3 => ?_) (fun c_3 => ?_)
  · replace w := w.1 c_3
    refine jw_iconst (pc' := 46) (x := (0 : Int32)) rfl rfl ?_
    refine jw_istore (pc' := 48) (ls' := [some (vR 19 r0), some (vR 3 r1), some (vI x2), some (vR 76 r3), some (vI (0 : Int32))]) rfl (by decide) rfl ?_
    obtain ⟨n, w⟩ := w
    exact l_X23_work_48 hK2 n _ _ _ _ _ _ w
  · replace w := w.2 c_3
    refine jw_aload_n (pc' := 32) rfl rfl ?_
    refine jw_iload (pc' := 34) rfl rfl ?_
    obtain ⟨g_4, w⟩ := w
    obtain ⟨g_5, w⟩ := w
    refine jw_aald (pc' := 35) (t' := 8) rfl rfl rfl rfl g_4 g_5.ix g_5.2 ?_
    obtain ⟨g_6, w⟩ := w
    refine jw_cR (st := []) (sa := [vR 8 (jar h r3 (ixn x4))]) okX14_none rfl rfl rfl rfl rfl rfl (jstp_virtual (sa := []) (st := []) (k := 0) rfl rfl sX14_none okX14_none g_6 (one8.k g_6) rfl rfl) w (fun v_9 h_7 _ _ _ w => ?_)
    refine jw_pop (pc' := 39) rfl rfl ?_
    refine jw_iinc (pc' := 42) (y := x4 + (1 : Int32)) (ls' := [some (vR 19 r0), some (vR 3 r1), some (vI x2), some (vR 76 r3), some (vI (x4 + (1 : Int32)))]) rfl (by decide) rfl rfl rfl ?_
    refine jw_goto (pc' := 19) rfl rfl ?_
    exact hK19 _ _ _ _ _ _ w
def L_X23_work_19 (D : JD) (d : Nat) (Q : JO → JH → Prop) (K2 : Nat → Nat → Int32 → JH → Prop) : Nat → Nat → Nat → Int32 → Nat → Int32 → JH → Prop
  | 0 => fun _ _ _ _ _ _ => False
  | n + 1 => fun r0 r1 x2 r3 x4 h => W_X23_work_19 D d Q K2 (L_X23_work_19 D d Q K2 n) r0 r1 x2 r3 x4 h
theorem l_X23_work_19 {D : JD} {d : Nat} {Q : JO → JH → Prop} {K2 : Nat → Nat → Int32 → JH → Prop} (hK2 : ∀ (r0 : Nat) (r1 : Nat) (x2 : Int32) (h : JH), K2 r0 r1 x2 h → JW D (d + 1) mX23_work 2 [some (vR 19 r0), some (vR 3 r1), some (vI x2), none, none] [] h Q) : ∀ (n : Nat) (r0 : Nat) (r1 : Nat) (x2 : Int32) (r3 : Nat) (x4 : Int32) (h : JH), L_X23_work_19 D d Q K2 n r0 r1 x2 r3 x4 h → JW D (d + 1) mX23_work 19 [some (vR 19 r0), some (vR 3 r1), some (vI x2), some (vR 76 r3), some (vI x4)] [] h Q := by
  intro n
  induction n with
  | zero => intro _ _ _ _ _ _ w; exact w.elim
  | succ n ih => intro _ _ _ _ _ h w; exact w_X23_work_19 hK2 ih w
def W_X23_work_2 (D : JD) (d : Nat) (Q : JO → JH → Prop) (K2 : Nat → Nat → Int32 → JH → Prop) (r0 : Nat) (r1 : Nat) (x2 : Int32) (h : JH) : Prop :=
  r0 ≠ 0 ∧ (((jfi h 105 r0) ≤ x2 → (jfr h 107 r0) ≠ 0 ∧ ((((jfi h 46 (jfr h 107 r0)) + (jfi h 105 r0)) ≤ (100 : Int32) → ∃ n, L_X23_work_133 D d Q n r0 r1 (0 : Int32) h) ∧ (¬ ((jfi h 46 (jfr h 107 r0)) + (jfi h 105 r0)) ≤ (100 : Int32) → cX1_fault D d (jcs D 198) h (pR D h 9 (fun v_7 h_5 => v_7 ≠ 0 ∧ (Q (.inr v_7) h_5)) (jth Q))))) ∧ (¬ (jfi h 105 r0) ≤ x2 → r1 ≠ 0 ∧ (cX3_scratch D d r1 x2 h (pR D h 76 (fun v_12 h_10 => ∃ n, L_X23_work_19 D d Q K2 n r0 r1 x2 v_12 (0 : Int32) h_10) (jth Q)))))
theorem w_X23_work_2 {D : JD} {d : Nat} {Q : JO → JH → Prop} {K2 : Nat → Nat → Int32 → JH → Prop} {r0 : Nat} {r1 : Nat} {x2 : Int32} {h : JH} (hK2 : ∀ (r0 : Nat) (r1 : Nat) (x2 : Int32) (h : JH), K2 r0 r1 x2 h → JW D (d + 1) mX23_work 2 [some (vR 19 r0), some (vR 3 r1), some (vI x2), none, none] [] h Q) (w : W_X23_work_2 D d Q K2 r0 r1 x2 h) : JW D (d + 1) mX23_work 2 [some (vR 19 r0), some (vR 3 r1), some (vI x2), none, none] [] h Q := by
  unfold W_X23_work_2 at w
  refine jw_iload_n (pc' := 3) rfl rfl ?_
  refine jw_aload_n (pc' := 4) rfl rfl ?_
  obtain ⟨g_1, w⟩ := w
  refine jw_getI (pc' := 7) (F := 105) rfl rfl rfl rfl g_1 ?_
  refine jw_icmp_ge (tgt := 108) (pc' := 10) rfl rfl (fun c_2 => ?_) (fun c_2 => ?_)
  · replace w := w.1 c_2
    refine jw_aload_n (pc' := 109) rfl rfl ?_
    refine jw_getR (pc' := 112) (F := 107) (t' := 5) rfl rfl rfl rfl rfl g_1 ?_
    obtain ⟨g_3, w⟩ := w
    refine jw_getI (pc' := 115) (F := 46) rfl rfl rfl rfl g_3 ?_
    refine jw_aload_n (pc' := 116) rfl rfl ?_
    refine jw_getI (pc' := 119) (F := 105) rfl rfl rfl rfl g_1 ?_
    refine jw_iadd (pc' := 120) rfl ?_
    refine jw_bipush (pc' := 122) (x := (100 : Int32)) rfl rfl ?_
    refine jw_icmp_le (tgt := 131) (pc' := 125) rfl rfl (fun c_4 => ?_) (fun c_4 => ?_)
    · replace w := w.1 c_4
      refine jw_iconst (pc' := 132) (x := (0 : Int32)) rfl rfl ?_
      refine jw_istore_n (pc' := 133) (ls' := [some (vR 19 r0), some (vR 3 r1), some (vI (0 : Int32)), none, none]) rfl (by decide) rfl ?_
      obtain ⟨n, w⟩ := w
      exact l_X23_work_133 n _ _ _ _ w
    · replace w := w.2 c_4
      refine jw_ldcS (pc' := 127) rfl rfl rfl rfl ?_
      refine jw_cR (st := []) (sa := [vR 51 (jcs D 198)]) okX1_fault rfl rfl rfl rfl rfl rfl (jstp_static (sa := [vR 51 (jcs D 198)]) (st := []) rfl rfl sX1_fault okX1_fault rfl rfl) w (fun v_7 h_5 _ _ _ w => ?_)
      obtain ⟨g_8, w⟩ := w
      exact jw_athrow rfl rfl g_8 w
  · replace w := w.2 c_2
    refine jw_aload_n (pc' := 11) rfl rfl ?_
    refine jw_iload_n (pc' := 12) rfl rfl ?_
    obtain ⟨g_9, w⟩ := w
    refine jw_cR (st := []) (sa := [vR 3 r1, vI x2]) okX3_scratch rfl rfl rfl rfl rfl rfl (jstp_virtual (sa := [vI x2]) (st := []) (k := 0) rfl rfl sX3_scratch okX3_scratch g_9 (one3.k g_9) rfl rfl) w (fun v_12 h_10 _ _ _ w => ?_)
    refine jw_astore_n (pc' := 16) (ls' := [some (vR 19 r0), some (vR 3 r1), some (vI x2), some (vR 76 v_12), none]) rfl (by decide) rfl ?_
    refine jw_iconst (pc' := 17) (x := (0 : Int32)) rfl rfl ?_
    refine jw_istore (pc' := 19) (ls' := [some (vR 19 r0), some (vR 3 r1), some (vI x2), some (vR 76 v_12), some (vI (0 : Int32))]) rfl (by decide) rfl ?_
    obtain ⟨n, w⟩ := w
    exact l_X23_work_19 hK2 n _ _ _ _ _ _ w
def L_X23_work_2 (D : JD) (d : Nat) (Q : JO → JH → Prop) : Nat → Nat → Nat → Int32 → JH → Prop
  | 0 => fun _ _ _ _ => False
  | n + 1 => fun r0 r1 x2 h => W_X23_work_2 D d Q (L_X23_work_2 D d Q n) r0 r1 x2 h
theorem l_X23_work_2 {D : JD} {d : Nat} {Q : JO → JH → Prop} : ∀ (n : Nat) (r0 : Nat) (r1 : Nat) (x2 : Int32) (h : JH), L_X23_work_2 D d Q n r0 r1 x2 h → JW D (d + 1) mX23_work 2 [some (vR 19 r0), some (vR 3 r1), some (vI x2), none, none] [] h Q := by
  intro n
  induction n with
  | zero => intro _ _ _ _ w; exact w.elim
  | succ n ih => intro _ _ _ h w; exact w_X23_work_2 ih w
def W_X23_work_0 (D : JD) (d : Nat) (Q : JO → JH → Prop) (r0 : Nat) (r1 : Nat) (h : JH) : Prop :=
  ∃ n, L_X23_work_2 D d Q n r0 r1 (0 : Int32) h
theorem w_X23_work_0 {D : JD} {d : Nat} {Q : JO → JH → Prop} {r0 : Nat} {r1 : Nat} {h : JH} (w : W_X23_work_0 D d Q r0 r1 h) : JW D (d + 1) mX23_work 0 [some (vR 19 r0), some (vR 3 r1), none, none, none] [] h Q := by
  unfold W_X23_work_0 at w
  refine jw_iconst (pc' := 1) (x := (0 : Int32)) rfl rfl ?_
  refine jw_istore_n (pc' := 2) (ls' := [some (vR 19 r0), some (vR 3 r1), some (vI (0 : Int32)), none, none]) rfl (by decide) rfl ?_
  obtain ⟨n, w⟩ := w
  exact l_X23_work_2 n _ _ _ _ w
def T_X23_work (D : JD) (d : Nat) (Q : JO → JH → Prop) (r0 : Nat) (r1 : Nat) (h : JH) : Prop := W_X23_work_0 D d Q r0 r1 h
theorem t_X23_work {D : JD} {d : Nat} {Q : JO → JH → Prop} {r0 : Nat} {r1 : Nat} {h : JH} (w : T_X23_work D d Q r0 r1 h) : cX23_work D (d + 1) r0 r1 h Q := by
  unfold T_X23_work at w
  unfold cX23_work
  exact w_X23_work_0 w
def W_X24_init_0 (D : JD) (d : Nat) (Q : JO → JH → Prop) (r0 : Nat) (h : JH) : Prop :=
  r0 ≠ 0 ∧ (∀ (r_2 : Nat) (h_3 : JH), r_2 = jsz h + 1 → h_3 = nwo h 98 5 → (cX14_init D d r_2 h_3 (pV D h_3 (fun h_6 => ∀ h_9 : JH, h_9 = wfr h_6 108 r0 r_2 → (∀ h_11 : JH, h_11 = wfr h_9 109 r0 (jcs D 345) → (Q (.inl none) h_11))) (jth Q))))
theorem w_X24_init_0 {D : JD} {d : Nat} {Q : JO → JH → Prop} {r0 : Nat} {h : JH} (w : W_X24_init_0 D d Q r0 h) : JW D (d + 1) mX24_init 0 [some (vR 55 r0)] [] h Q := by
  unfold W_X24_init_0 at w
  refine jw_aload_n (pc' := 1) rfl rfl ?_
  obtain ⟨g_1, w⟩ := w
  refine jw_obj (pc' := 4) rfl (lw_g (jtb_mem (c := 7) (i := 96) rfl) rfl) rfl g_1 ?_
  refine jw_aload_n (pc' := 5) rfl rfl ?_
  refine jw_new' (pc' := 8) (k := 98) (n := 5) rfl rfl rfl rfl rfl rfl rfl (fun r_2 h_3 e_4 e_5 => ?_)
  replace w := w r_2 h_3 e_4 e_5
  refine jw_dup (pc' := 9) rfl rfl ?_
  refine jw_cV (st := [vR 98 r_2, vR 55 r0]) (sa := [vR 98 r_2]) okX14_init rfl rfl rfl rfl rfl rfl (jstp_init (sa := []) (st := [vR 98 r_2, vR 55 r0]) rfl rfl sX14_init okX14_init (lw_g (jtb_mem (c := 2) (i := 222) rfl) rfl) (jnz e_4) rfl rfl) w (fun h_6 _ _ w => ?_)
  refine jw_putR' (pc' := 15) (F := 108) rfl rfl rfl (Or.inr rfl) (Or.inr ⟨rfl, rfl⟩) rfl rfl rfl g_1 (fun h_9 e_10 => ?_)
  replace w := w h_9 e_10
  refine jw_aload_n (pc' := 16) rfl rfl ?_
  refine jw_getsR (pc' := 19) rfl rfl rfl rfl ?_
  refine jw_putR' (pc' := 22) (F := 109) rfl rfl rfl (Or.inr rfl) (Or.inl rfl) rfl rfl rfl g_1 (fun h_11 e_12 => ?_)
  replace w := w h_11 e_12
  exact jw_return rfl rfl w
def T_X24_init (D : JD) (d : Nat) (Q : JO → JH → Prop) (r0 : Nat) (h : JH) : Prop := W_X24_init_0 D d Q r0 h
theorem t_X24_init {D : JD} {d : Nat} {Q : JO → JH → Prop} {r0 : Nat} {h : JH} (w : T_X24_init D d Q r0 h) : cX24_init D (d + 1) r0 h Q := by
  unfold T_X24_init at w
  unfold cX24_init
  exact w_X24_init_0 w
def W_X24_need_0 (D : JD) (d : Nat) (Q : JO → JH → Prop) (r0 : Nat) (r1 : Nat) (h : JH) : Prop :=
  r0 ≠ 0 ∧ (cX15_fits D d r0 r1 h (pI D h (fun v_4 h_2 => (¬ v_4 = 0 → Q (.inl none) h_2) ∧ (v_4 = 0 → cX1_fault D d (jcs D 168) h_2 (pR D h_2 9 (fun v_8 h_6 => v_8 ≠ 0 ∧ (Q (.inr v_8) h_6)) (jth Q)))) (jth Q)))
theorem w_X24_need_0 {D : JD} {d : Nat} {Q : JO → JH → Prop} {r0 : Nat} {r1 : Nat} {h : JH} (w : W_X24_need_0 D d Q r0 r1 h) : JW D (d + 1) mX24_need 0 [some (vR 52 r0), some (vR 52 r1)] [] h Q := by
  unfold W_X24_need_0 at w
  refine jw_aload_n (pc' := 1) rfl rfl ?_
  refine jw_aload_n (pc' := 2) rfl rfl ?_
  obtain ⟨g_1, w⟩ := w
  refine jw_cI (st := []) (sa := [vR 52 r0, vR 52 r1]) okX15_fits rfl rfl rfl rfl rfl rfl (jstp_virtual (sa := [vR 52 r1]) (st := []) (k := 0) rfl rfl sX15_fits okX15_fits g_1 (one52.k g_1) rfl rfl) w (fun v_4 h_2 _ _ w => ?_)
  refine jw_if_ne (tgt := 14) (pc' := 8) rfl rfl (fun c_5 => ?_) (fun c_5 => ?_)
  · replace w := w.1 c_5
    exact jw_return rfl rfl w
  · replace w := w.2 c_5
    refine jw_ldcS (pc' := 10) rfl rfl rfl rfl ?_
    refine jw_cR (st := []) (sa := [vR 51 (jcs D 168)]) okX1_fault rfl rfl rfl rfl rfl rfl (jstp_static (sa := [vR 51 (jcs D 168)]) (st := []) rfl rfl sX1_fault okX1_fault rfl rfl) w (fun v_8 h_6 _ _ _ w => ?_)
    obtain ⟨g_9, w⟩ := w
    exact jw_athrow rfl rfl g_9 w
def T_X24_need (D : JD) (d : Nat) (Q : JO → JH → Prop) (r0 : Nat) (r1 : Nat) (h : JH) : Prop := W_X24_need_0 D d Q r0 r1 h
theorem t_X24_need {D : JD} {d : Nat} {Q : JO → JH → Prop} {r0 : Nat} {r1 : Nat} {h : JH} (w : T_X24_need D d Q r0 r1 h) : cX24_need D (d + 1) r0 r1 h Q := by
  unfold T_X24_need at w
  unfold cX24_need
  exact w_X24_need_0 w
def W_X24_aggregates_18 (D : JD) (d : Nat) (Q : JO → JH → Prop) (K2 : Nat → Int32 → JH → Prop) (r0 : Nat) (x1 : Int32) (s0 : Int32) (h : JH) : Prop :=
  (s0 = 0 → K2 r0 (x1 + (1 : Int32)) h) ∧ (¬ s0 = 0 → Q (.inl (some (vI (1 : Int32)))) h)
theorem w_X24_aggregates_18 {D : JD} {d : Nat} {Q : JO → JH → Prop} {K2 : Nat → Int32 → JH → Prop} {r0 : Nat} {x1 : Int32} {s0 : Int32} {h : JH} (hK2 : ∀ (r0 : Nat) (x1 : Int32) (h : JH), K2 r0 x1 h → JW D (d + 1) mX24_aggregates 2 [some (vR 55 r0), some (vI x1)] [] h Q) (w : W_X24_aggregates_18 D d Q K2 r0 x1 s0 h) : JW D (d + 1) mX24_aggregates 18 [some (vR 55 r0), some (vI x1)] [vI s0] h Q := by
  unfold W_X24_aggregates_18 at w
  refine jw_if_eq (tgt := 23) (pc' := 21) rfl rfl (fun c_1 => ?_) (fun c_1 => ?_)
  · replace w := w.1 c_1
    refine jw_iinc (pc' := 26) (y := x1 + (1 : Int32)) (ls' := [some (vR 55 r0), some (vI (x1 + (1 : Int32)))]) rfl (by decide) rfl rfl rfl ?_
    refine jw_goto (pc' := 2) rfl rfl ?_
    exact hK2 _ _ _ w
  · replace w := w.2 c_1
    refine jw_iconst (pc' := 22) (x := (1 : Int32)) rfl rfl ?_
    exact jw_ireturn rfl rfl (rfl) w
def W_X24_aggregates_15 (D : JD) (d : Nat) (Q : JO → JH → Prop) (K2 : Nat → Int32 → JH → Prop) (r0 : Nat) (x1 : Int32) (q0 : Nat) (h : JH) : Prop :=
  q0 ≠ 0 ∧ (v55_aggregates D d q0 h (pI D h (fun v_4 h_2 => W_X24_aggregates_18 D d Q K2 r0 x1 v_4 h_2) (jth Q)))
theorem w_X24_aggregates_15 {D : JD} {d : Nat} {Q : JO → JH → Prop} {K2 : Nat → Int32 → JH → Prop} {r0 : Nat} {x1 : Int32} {q0 : Nat} {h : JH} (hK2 : ∀ (r0 : Nat) (x1 : Int32) (h : JH), K2 r0 x1 h → JW D (d + 1) mX24_aggregates 2 [some (vR 55 r0), some (vI x1)] [] h Q) (w : W_X24_aggregates_15 D d Q K2 r0 x1 q0 h) : JW D (d + 1) mX24_aggregates 15 [some (vR 55 r0), some (vI x1)] [vR 55 q0] h Q := by
  unfold W_X24_aggregates_15 at w
  obtain ⟨g_1, w⟩ := w
  refine JW.inv (fun hI => JW.oks (fun ho => ?_))
  have hkd := und55.k hI (ho (vR 55 q0) (by simp)) g_1
  simp only [List.mem_cons, List.not_mem_nil, or_false] at hkd
  clear ho hI
  rcases hkd with e_5 | e_5 | e_5 | e_5 | e_5 | e_5 | e_5 | e_5 | e_5 | e_5
  · refine jw_cI (st := []) (sa := [vR 55 q0]) okX24_aggregates rfl rfl rfl rfl rfl rfl (jstp_up (sa := []) (st := []) rfl (lw_g (jtb_mem (c := 11) (i := 12) rfl) rfl) um38 okX24_aggregates g_1 (fun _ _ => by rw [e_5]; exact ⟨rfl, rfl⟩) rfl rfl) (w.1 e_5) (fun v_4 h_2 _ _ w => ?_)
    exact w_X24_aggregates_18 hK2 w
  · refine jw_cI (st := []) (sa := [vR 55 q0]) okX24_aggregates rfl rfl rfl rfl rfl rfl (jstp_up (sa := []) (st := []) rfl (lw_g (jtb_mem (c := 11) (i := 12) rfl) rfl) um39 okX24_aggregates g_1 (fun _ _ => by rw [e_5]; exact ⟨rfl, rfl⟩) rfl rfl) (w.2.1 e_5) (fun v_4 h_2 _ _ w => ?_)
    exact w_X24_aggregates_18 hK2 w
  · refine jw_gen (ls' := _) (st' := [vR 22 q0]) (jgl_rf _ _) (And.intro (Or.inr ⟨_, _, _, rfl, rfl, Or.inr (Or.inr (by rw [e_5]; rfl))⟩) (jgs_rf _ _)) ?_
    refine jw_cI (st := []) (sa := [vR 22 q0]) okX28_aggregates rfl rfl rfl rfl rfl rfl (jstp_up (sa := []) (st := []) rfl (lw_g (jtb_mem (c := 11) (i := 12) rfl) rfl) um40 okX28_aggregates g_1 (fun _ _ => by rw [e_5]; exact ⟨rfl, rfl⟩) rfl rfl) (w.2.2.1 e_5) (fun v_4 h_2 _ _ w => ?_)
    exact w_X24_aggregates_18 hK2 w
  · refine jw_cI (st := []) (sa := [vR 55 q0]) okX24_aggregates rfl rfl rfl rfl rfl rfl (jstp_up (sa := []) (st := []) rfl (lw_g (jtb_mem (c := 11) (i := 12) rfl) rfl) um41 okX24_aggregates g_1 (fun _ _ => by rw [e_5]; exact ⟨rfl, rfl⟩) rfl rfl) (w.2.2.2.1 e_5) (fun v_4 h_2 _ _ w => ?_)
    exact w_X24_aggregates_18 hK2 w
  · refine jw_cI (st := []) (sa := [vR 55 q0]) okX24_aggregates rfl rfl rfl rfl rfl rfl (jstp_up (sa := []) (st := []) rfl (lw_g (jtb_mem (c := 11) (i := 12) rfl) rfl) um42 okX24_aggregates g_1 (fun _ _ => by rw [e_5]; exact ⟨rfl, rfl⟩) rfl rfl) (w.2.2.2.2.1 e_5) (fun v_4 h_2 _ _ w => ?_)
    exact w_X24_aggregates_18 hK2 w
  · refine jw_cI (st := []) (sa := [vR 55 q0]) okX24_aggregates rfl rfl rfl rfl rfl rfl (jstp_up (sa := []) (st := []) rfl (lw_g (jtb_mem (c := 11) (i := 12) rfl) rfl) um43 okX24_aggregates g_1 (fun _ _ => by rw [e_5]; exact ⟨rfl, rfl⟩) rfl rfl) (w.2.2.2.2.2.1 e_5) (fun v_4 h_2 _ _ w => ?_)
    exact w_X24_aggregates_18 hK2 w
  · refine jw_cI (st := []) (sa := [vR 55 q0]) okX24_aggregates rfl rfl rfl rfl rfl rfl (jstp_up (sa := []) (st := []) rfl (lw_g (jtb_mem (c := 11) (i := 12) rfl) rfl) um44 okX24_aggregates g_1 (fun _ _ => by rw [e_5]; exact ⟨rfl, rfl⟩) rfl rfl) (w.2.2.2.2.2.2.1 e_5) (fun v_4 h_2 _ _ w => ?_)
    exact w_X24_aggregates_18 hK2 w
  · refine jw_cI (st := []) (sa := [vR 55 q0]) okX24_aggregates rfl rfl rfl rfl rfl rfl (jstp_up (sa := []) (st := []) rfl (lw_g (jtb_mem (c := 11) (i := 12) rfl) rfl) um45 okX24_aggregates g_1 (fun _ _ => by rw [e_5]; exact ⟨rfl, rfl⟩) rfl rfl) (w.2.2.2.2.2.2.2.1 e_5) (fun v_4 h_2 _ _ w => ?_)
    exact w_X24_aggregates_18 hK2 w
  · refine jw_cI (st := []) (sa := [vR 55 q0]) okX24_aggregates rfl rfl rfl rfl rfl rfl (jstp_up (sa := []) (st := []) rfl (lw_g (jtb_mem (c := 11) (i := 12) rfl) rfl) um46 okX24_aggregates g_1 (fun _ _ => by rw [e_5]; exact ⟨rfl, rfl⟩) rfl rfl) (w.2.2.2.2.2.2.2.2.1 e_5) (fun v_4 h_2 _ _ w => ?_)
    exact w_X24_aggregates_18 hK2 w
  · refine jw_cI (st := []) (sa := [vR 55 q0]) okX24_aggregates rfl rfl rfl rfl rfl rfl (jstp_up (sa := []) (st := []) rfl (lw_g (jtb_mem (c := 11) (i := 12) rfl) rfl) um47 okX24_aggregates g_1 (fun _ _ => by rw [e_5]; exact ⟨rfl, rfl⟩) rfl rfl) (w.2.2.2.2.2.2.2.2.2 e_5) (fun v_4 h_2 _ _ w => ?_)
    exact w_X24_aggregates_18 hK2 w
def W_X24_aggregates_7 (D : JD) (d : Nat) (Q : JO → JH → Prop) (K2 : Nat → Int32 → JH → Prop) (r0 : Nat) (x1 : Int32) (s0 : Int32) (s1 : Int32) (h : JH) : Prop :=
  (s1 ≤ s0 → Q (.inl (some (vI (0 : Int32)))) h) ∧ (¬ s1 ≤ s0 → r0 ≠ 0 ∧ (v55_part D d r0 x1 h (pR D h 55 (fun v_5 h_3 => W_X24_aggregates_15 D d Q K2 r0 x1 v_5 h_3) (jth Q))))
theorem w_X24_aggregates_7 {D : JD} {d : Nat} {Q : JO → JH → Prop} {K2 : Nat → Int32 → JH → Prop} {r0 : Nat} {x1 : Int32} {s0 : Int32} {s1 : Int32} {h : JH} (hK2 : ∀ (r0 : Nat) (x1 : Int32) (h : JH), K2 r0 x1 h → JW D (d + 1) mX24_aggregates 2 [some (vR 55 r0), some (vI x1)] [] h Q) (w : W_X24_aggregates_7 D d Q K2 r0 x1 s0 s1 h) : JW D (d + 1) mX24_aggregates 7 [some (vR 55 r0), some (vI x1)] [vI s1, vI s0] h Q := by
  unfold W_X24_aggregates_7 at w
  refine jw_icmp_ge (tgt := 29) (pc' := 10) rfl rfl (fun c_1 => ?_) (fun c_1 => ?_)
  · replace w := w.1 c_1
    refine jw_iconst (pc' := 30) (x := (0 : Int32)) rfl rfl ?_
    exact jw_ireturn rfl rfl (rfl) w
  · replace w := w.2 c_1
    refine jw_aload_n (pc' := 11) rfl rfl ?_
    refine jw_iload_n (pc' := 12) rfl rfl ?_
    obtain ⟨g_2, w⟩ := w
    refine JW.inv (fun hI => JW.oks (fun ho => ?_))
    have hkd := und55.k hI (ho (vR 55 r0) (by simp)) g_2
    simp only [List.mem_cons, List.not_mem_nil, or_false] at hkd
    clear ho hI
    rcases hkd with e_6 | e_6 | e_6 | e_6 | e_6 | e_6 | e_6 | e_6 | e_6 | e_6
    · refine jw_cR (st := []) (sa := [vR 55 r0, vI x1]) okX24_part rfl rfl rfl rfl rfl rfl (jstp_up (sa := [vI x1]) (st := []) rfl (lw_g (jtb_mem (c := 10) (i := 230) rfl) rfl) um48 okX24_part g_2 (fun _ _ => by rw [e_6]; exact ⟨rfl, rfl⟩) rfl rfl) (w.1 e_6) (fun v_5 h_3 _ _ _ w => ?_)
      exact w_X24_aggregates_15 hK2 w
    · refine jw_gen (ls' := _) (st' := [vI x1, vR 21 r0]) (jgl_rf _ _) (And.intro (Or.inl rfl) (And.intro (Or.inr ⟨_, _, _, rfl, rfl, Or.inr (Or.inr (by rw [e_6]; rfl))⟩) (jgs_rf _ _))) ?_
      refine jw_cR (st := []) (sa := [vR 21 r0, vI x1]) okX26_part rfl rfl rfl rfl rfl rfl (jstp_up (sa := [vI x1]) (st := []) rfl (lw_g (jtb_mem (c := 10) (i := 230) rfl) rfl) um49 okX26_part g_2 (fun _ _ => by rw [e_6]; exact ⟨rfl, rfl⟩) rfl rfl) (w.2.1 e_6) (fun v_5 h_3 _ _ _ w => ?_)
      exact w_X24_aggregates_15 hK2 w
    · refine jw_gen (ls' := _) (st' := [vI x1, vR 22 r0]) (jgl_rf _ _) (And.intro (Or.inl rfl) (And.intro (Or.inr ⟨_, _, _, rfl, rfl, Or.inr (Or.inr (by rw [e_6]; rfl))⟩) (jgs_rf _ _))) ?_
      refine jw_cR (st := []) (sa := [vR 22 r0, vI x1]) okX26_part rfl rfl rfl rfl rfl rfl (jstp_up (sa := [vI x1]) (st := []) rfl (lw_g (jtb_mem (c := 10) (i := 230) rfl) rfl) um50 okX26_part g_2 (fun _ _ => by rw [e_6]; exact ⟨rfl, rfl⟩) rfl rfl) (w.2.2.1 e_6) (fun v_5 h_3 _ _ _ w => ?_)
      exact w_X24_aggregates_15 hK2 w
    · refine jw_gen (ls' := _) (st' := [vI x1, vR 23 r0]) (jgl_rf _ _) (And.intro (Or.inl rfl) (And.intro (Or.inr ⟨_, _, _, rfl, rfl, Or.inr (Or.inr (by rw [e_6]; rfl))⟩) (jgs_rf _ _))) ?_
      refine jw_cR (st := []) (sa := [vR 23 r0, vI x1]) okX26_part rfl rfl rfl rfl rfl rfl (jstp_up (sa := [vI x1]) (st := []) rfl (lw_g (jtb_mem (c := 10) (i := 230) rfl) rfl) um51 okX26_part g_2 (fun _ _ => by rw [e_6]; exact ⟨rfl, rfl⟩) rfl rfl) (w.2.2.2.1 e_6) (fun v_5 h_3 _ _ _ w => ?_)
      exact w_X24_aggregates_15 hK2 w
    · refine jw_cR (st := []) (sa := [vR 55 r0, vI x1]) okX24_part rfl rfl rfl rfl rfl rfl (jstp_up (sa := [vI x1]) (st := []) rfl (lw_g (jtb_mem (c := 10) (i := 230) rfl) rfl) um52 okX24_part g_2 (fun _ _ => by rw [e_6]; exact ⟨rfl, rfl⟩) rfl rfl) (w.2.2.2.2.1 e_6) (fun v_5 h_3 _ _ _ w => ?_)
      exact w_X24_aggregates_15 hK2 w
    · refine jw_cR (st := []) (sa := [vR 55 r0, vI x1]) okX24_part rfl rfl rfl rfl rfl rfl (jstp_up (sa := [vI x1]) (st := []) rfl (lw_g (jtb_mem (c := 10) (i := 230) rfl) rfl) um53 okX24_part g_2 (fun _ _ => by rw [e_6]; exact ⟨rfl, rfl⟩) rfl rfl) (w.2.2.2.2.2.1 e_6) (fun v_5 h_3 _ _ _ w => ?_)
      exact w_X24_aggregates_15 hK2 w
    · refine jw_gen (ls' := _) (st' := [vI x1, vR 26 r0]) (jgl_rf _ _) (And.intro (Or.inl rfl) (And.intro (Or.inr ⟨_, _, _, rfl, rfl, Or.inr (Or.inr (by rw [e_6]; rfl))⟩) (jgs_rf _ _))) ?_
      refine jw_cR (st := []) (sa := [vR 26 r0, vI x1]) okX32_part rfl rfl rfl rfl rfl rfl (jstp_up (sa := [vI x1]) (st := []) rfl (lw_g (jtb_mem (c := 10) (i := 230) rfl) rfl) um54 okX32_part g_2 (fun _ _ => by rw [e_6]; exact ⟨rfl, rfl⟩) rfl rfl) (w.2.2.2.2.2.2.1 e_6) (fun v_5 h_3 _ _ _ w => ?_)
      exact w_X24_aggregates_15 hK2 w
    · refine jw_gen (ls' := _) (st' := [vI x1, vR 27 r0]) (jgl_rf _ _) (And.intro (Or.inl rfl) (And.intro (Or.inr ⟨_, _, _, rfl, rfl, Or.inr (Or.inr (by rw [e_6]; rfl))⟩) (jgs_rf _ _))) ?_
      refine jw_cR (st := []) (sa := [vR 27 r0, vI x1]) okX33_part rfl rfl rfl rfl rfl rfl (jstp_up (sa := [vI x1]) (st := []) rfl (lw_g (jtb_mem (c := 10) (i := 230) rfl) rfl) um55 okX33_part g_2 (fun _ _ => by rw [e_6]; exact ⟨rfl, rfl⟩) rfl rfl) (w.2.2.2.2.2.2.2.1 e_6) (fun v_5 h_3 _ _ _ w => ?_)
      exact w_X24_aggregates_15 hK2 w
    · refine jw_gen (ls' := _) (st' := [vI x1, vR 28 r0]) (jgl_rf _ _) (And.intro (Or.inl rfl) (And.intro (Or.inr ⟨_, _, _, rfl, rfl, Or.inr (Or.inr (by rw [e_6]; rfl))⟩) (jgs_rf _ _))) ?_
      refine jw_cR (st := []) (sa := [vR 28 r0, vI x1]) okX34_part rfl rfl rfl rfl rfl rfl (jstp_up (sa := [vI x1]) (st := []) rfl (lw_g (jtb_mem (c := 10) (i := 230) rfl) rfl) um56 okX34_part g_2 (fun _ _ => by rw [e_6]; exact ⟨rfl, rfl⟩) rfl rfl) (w.2.2.2.2.2.2.2.2.1 e_6) (fun v_5 h_3 _ _ _ w => ?_)
      exact w_X24_aggregates_15 hK2 w
    · refine jw_gen (ls' := _) (st' := [vI x1, vR 29 r0]) (jgl_rf _ _) (And.intro (Or.inl rfl) (And.intro (Or.inr ⟨_, _, _, rfl, rfl, Or.inr (Or.inr (by rw [e_6]; rfl))⟩) (jgs_rf _ _))) ?_
      refine jw_cR (st := []) (sa := [vR 29 r0, vI x1]) okX26_part rfl rfl rfl rfl rfl rfl (jstp_up (sa := [vI x1]) (st := []) rfl (lw_g (jtb_mem (c := 10) (i := 230) rfl) rfl) um57 okX26_part g_2 (fun _ _ => by rw [e_6]; exact ⟨rfl, rfl⟩) rfl rfl) (w.2.2.2.2.2.2.2.2.2 e_6) (fun v_5 h_3 _ _ _ w => ?_)
      exact w_X24_aggregates_15 hK2 w
def W_X24_aggregates_2 (D : JD) (d : Nat) (Q : JO → JH → Prop) (K2 : Nat → Int32 → JH → Prop) (r0 : Nat) (x1 : Int32) (h : JH) : Prop :=
  r0 ≠ 0 ∧ (v55_count D d r0 h (pI D h (fun v_4 h_2 => W_X24_aggregates_7 D d Q K2 r0 x1 x1 v_4 h_2) (jth Q)))
theorem w_X24_aggregates_2 {D : JD} {d : Nat} {Q : JO → JH → Prop} {K2 : Nat → Int32 → JH → Prop} {r0 : Nat} {x1 : Int32} {h : JH} (hK2 : ∀ (r0 : Nat) (x1 : Int32) (h : JH), K2 r0 x1 h → JW D (d + 1) mX24_aggregates 2 [some (vR 55 r0), some (vI x1)] [] h Q) (w : W_X24_aggregates_2 D d Q K2 r0 x1 h) : JW D (d + 1) mX24_aggregates 2 [some (vR 55 r0), some (vI x1)] [] h Q := by
  unfold W_X24_aggregates_2 at w
  refine jw_iload_n (pc' := 3) rfl rfl ?_
  refine jw_aload_n (pc' := 4) rfl rfl ?_
  obtain ⟨g_1, w⟩ := w
  refine JW.inv (fun hI => JW.oks (fun ho => ?_))
  have hkd := und55.k hI (ho (vR 55 r0) (by simp)) g_1
  simp only [List.mem_cons, List.not_mem_nil, or_false] at hkd
  clear ho hI
  rcases hkd with e_5 | e_5 | e_5 | e_5 | e_5 | e_5 | e_5 | e_5 | e_5 | e_5
  · refine jw_cI (st := [vI x1]) (sa := [vR 55 r0]) okX24_count rfl rfl rfl rfl rfl rfl (jstp_up (sa := []) (st := [vI x1]) rfl (lw_g (jtb_mem (c := 10) (i := 208) rfl) rfl) um58 okX24_count g_1 (fun _ _ => by rw [e_5]; exact ⟨rfl, rfl⟩) rfl rfl) (w.1 e_5) (fun v_4 h_2 _ _ w => ?_)
    exact w_X24_aggregates_7 hK2 w
  · refine jw_gen (ls' := _) (st' := [vR 21 r0, vI x1]) (jgl_rf _ _) (And.intro (Or.inr ⟨_, _, _, rfl, rfl, Or.inr (Or.inr (by rw [e_5]; rfl))⟩) (jgs_rf _ _)) ?_
    refine jw_cI (st := [vI x1]) (sa := [vR 21 r0]) okX26_count rfl rfl rfl rfl rfl rfl (jstp_up (sa := []) (st := [vI x1]) rfl (lw_g (jtb_mem (c := 10) (i := 208) rfl) rfl) um59 okX26_count g_1 (fun _ _ => by rw [e_5]; exact ⟨rfl, rfl⟩) rfl rfl) (w.2.1 e_5) (fun v_4 h_2 _ _ w => ?_)
    exact w_X24_aggregates_7 hK2 w
  · refine jw_gen (ls' := _) (st' := [vR 22 r0, vI x1]) (jgl_rf _ _) (And.intro (Or.inr ⟨_, _, _, rfl, rfl, Or.inr (Or.inr (by rw [e_5]; rfl))⟩) (jgs_rf _ _)) ?_
    refine jw_cI (st := [vI x1]) (sa := [vR 22 r0]) okX26_count rfl rfl rfl rfl rfl rfl (jstp_up (sa := []) (st := [vI x1]) rfl (lw_g (jtb_mem (c := 10) (i := 208) rfl) rfl) um60 okX26_count g_1 (fun _ _ => by rw [e_5]; exact ⟨rfl, rfl⟩) rfl rfl) (w.2.2.1 e_5) (fun v_4 h_2 _ _ w => ?_)
    exact w_X24_aggregates_7 hK2 w
  · refine jw_gen (ls' := _) (st' := [vR 23 r0, vI x1]) (jgl_rf _ _) (And.intro (Or.inr ⟨_, _, _, rfl, rfl, Or.inr (Or.inr (by rw [e_5]; rfl))⟩) (jgs_rf _ _)) ?_
    refine jw_cI (st := [vI x1]) (sa := [vR 23 r0]) okX26_count rfl rfl rfl rfl rfl rfl (jstp_up (sa := []) (st := [vI x1]) rfl (lw_g (jtb_mem (c := 10) (i := 208) rfl) rfl) um61 okX26_count g_1 (fun _ _ => by rw [e_5]; exact ⟨rfl, rfl⟩) rfl rfl) (w.2.2.2.1 e_5) (fun v_4 h_2 _ _ w => ?_)
    exact w_X24_aggregates_7 hK2 w
  · refine jw_cI (st := [vI x1]) (sa := [vR 55 r0]) okX24_count rfl rfl rfl rfl rfl rfl (jstp_up (sa := []) (st := [vI x1]) rfl (lw_g (jtb_mem (c := 10) (i := 208) rfl) rfl) um62 okX24_count g_1 (fun _ _ => by rw [e_5]; exact ⟨rfl, rfl⟩) rfl rfl) (w.2.2.2.2.1 e_5) (fun v_4 h_2 _ _ w => ?_)
    exact w_X24_aggregates_7 hK2 w
  · refine jw_cI (st := [vI x1]) (sa := [vR 55 r0]) okX24_count rfl rfl rfl rfl rfl rfl (jstp_up (sa := []) (st := [vI x1]) rfl (lw_g (jtb_mem (c := 10) (i := 208) rfl) rfl) um63 okX24_count g_1 (fun _ _ => by rw [e_5]; exact ⟨rfl, rfl⟩) rfl rfl) (w.2.2.2.2.2.1 e_5) (fun v_4 h_2 _ _ w => ?_)
    exact w_X24_aggregates_7 hK2 w
  · refine jw_gen (ls' := _) (st' := [vR 26 r0, vI x1]) (jgl_rf _ _) (And.intro (Or.inr ⟨_, _, _, rfl, rfl, Or.inr (Or.inr (by rw [e_5]; rfl))⟩) (jgs_rf _ _)) ?_
    refine jw_cI (st := [vI x1]) (sa := [vR 26 r0]) okX32_count rfl rfl rfl rfl rfl rfl (jstp_up (sa := []) (st := [vI x1]) rfl (lw_g (jtb_mem (c := 10) (i := 208) rfl) rfl) um64 okX32_count g_1 (fun _ _ => by rw [e_5]; exact ⟨rfl, rfl⟩) rfl rfl) (w.2.2.2.2.2.2.1 e_5) (fun v_4 h_2 _ _ w => ?_)
    exact w_X24_aggregates_7 hK2 w
  · refine jw_gen (ls' := _) (st' := [vR 27 r0, vI x1]) (jgl_rf _ _) (And.intro (Or.inr ⟨_, _, _, rfl, rfl, Or.inr (Or.inr (by rw [e_5]; rfl))⟩) (jgs_rf _ _)) ?_
    refine jw_cI (st := [vI x1]) (sa := [vR 27 r0]) okX33_count rfl rfl rfl rfl rfl rfl (jstp_up (sa := []) (st := [vI x1]) rfl (lw_g (jtb_mem (c := 10) (i := 208) rfl) rfl) um65 okX33_count g_1 (fun _ _ => by rw [e_5]; exact ⟨rfl, rfl⟩) rfl rfl) (w.2.2.2.2.2.2.2.1 e_5) (fun v_4 h_2 _ _ w => ?_)
    exact w_X24_aggregates_7 hK2 w
  · refine jw_gen (ls' := _) (st' := [vR 28 r0, vI x1]) (jgl_rf _ _) (And.intro (Or.inr ⟨_, _, _, rfl, rfl, Or.inr (Or.inr (by rw [e_5]; rfl))⟩) (jgs_rf _ _)) ?_
    refine jw_cI (st := [vI x1]) (sa := [vR 28 r0]) okX34_count rfl rfl rfl rfl rfl rfl (jstp_up (sa := []) (st := [vI x1]) rfl (lw_g (jtb_mem (c := 10) (i := 208) rfl) rfl) um66 okX34_count g_1 (fun _ _ => by rw [e_5]; exact ⟨rfl, rfl⟩) rfl rfl) (w.2.2.2.2.2.2.2.2.1 e_5) (fun v_4 h_2 _ _ w => ?_)
    exact w_X24_aggregates_7 hK2 w
  · refine jw_gen (ls' := _) (st' := [vR 29 r0, vI x1]) (jgl_rf _ _) (And.intro (Or.inr ⟨_, _, _, rfl, rfl, Or.inr (Or.inr (by rw [e_5]; rfl))⟩) (jgs_rf _ _)) ?_
    refine jw_cI (st := [vI x1]) (sa := [vR 29 r0]) okX26_count rfl rfl rfl rfl rfl rfl (jstp_up (sa := []) (st := [vI x1]) rfl (lw_g (jtb_mem (c := 10) (i := 208) rfl) rfl) um67 okX26_count g_1 (fun _ _ => by rw [e_5]; exact ⟨rfl, rfl⟩) rfl rfl) (w.2.2.2.2.2.2.2.2.2 e_5) (fun v_4 h_2 _ _ w => ?_)
    exact w_X24_aggregates_7 hK2 w
def L_X24_aggregates_2 (D : JD) (d : Nat) (Q : JO → JH → Prop) : Nat → Nat → Int32 → JH → Prop
  | 0 => fun _ _ _ => False
  | n + 1 => fun r0 x1 h => W_X24_aggregates_2 D d Q (L_X24_aggregates_2 D d Q n) r0 x1 h
theorem l_X24_aggregates_2 {D : JD} {d : Nat} {Q : JO → JH → Prop} : ∀ (n : Nat) (r0 : Nat) (x1 : Int32) (h : JH), L_X24_aggregates_2 D d Q n r0 x1 h → JW D (d + 1) mX24_aggregates 2 [some (vR 55 r0), some (vI x1)] [] h Q := by
  intro n
  induction n with
  | zero => intro _ _ _ w; exact w.elim
  | succ n ih => intro _ _ h w; exact w_X24_aggregates_2 ih w
def W_X24_aggregates_0 (D : JD) (d : Nat) (Q : JO → JH → Prop) (r0 : Nat) (h : JH) : Prop :=
  ∃ n, L_X24_aggregates_2 D d Q n r0 (0 : Int32) h
theorem w_X24_aggregates_0 {D : JD} {d : Nat} {Q : JO → JH → Prop} {r0 : Nat} {h : JH} (w : W_X24_aggregates_0 D d Q r0 h) : JW D (d + 1) mX24_aggregates 0 [some (vR 55 r0), none] [] h Q := by
  unfold W_X24_aggregates_0 at w
  refine jw_iconst (pc' := 1) (x := (0 : Int32)) rfl rfl ?_
  refine jw_istore_n (pc' := 2) (ls' := [some (vR 55 r0), some (vI (0 : Int32))]) rfl (by decide) rfl ?_
  obtain ⟨n, w⟩ := w
  exact l_X24_aggregates_2 n _ _ _ w
def T_X24_aggregates (D : JD) (d : Nat) (Q : JO → JH → Prop) (r0 : Nat) (h : JH) : Prop := W_X24_aggregates_0 D d Q r0 h
theorem t_X24_aggregates {D : JD} {d : Nat} {Q : JO → JH → Prop} {r0 : Nat} {h : JH} (w : T_X24_aggregates D d Q r0 h) : cX24_aggregates D (d + 1) r0 h Q := by
  unfold T_X24_aggregates at w
  unfold cX24_aggregates
  exact w_X24_aggregates_0 w
def W_X24_count_0 (D : JD) (d : Nat) (Q : JO → JH → Prop) (h : JH) : Prop :=
  Q (.inl (some (vI (0 : Int32)))) h
theorem w_X24_count_0 {D : JD} {d : Nat} {Q : JO → JH → Prop} {h : JH} (w : W_X24_count_0 D d Q h) : JW D (d + 1) mX24_count 0 [none] [] h Q := by
  unfold W_X24_count_0 at w
  refine jw_iconst (pc' := 1) (x := (0 : Int32)) rfl rfl ?_
  exact jw_ireturn rfl rfl (rfl) w
def T_X24_count (D : JD) (d : Nat) (Q : JO → JH → Prop) (r0 : Nat) (h : JH) : Prop := W_X24_count_0 D d Q h
theorem t_X24_count {D : JD} {d : Nat} {Q : JO → JH → Prop} {r0 : Nat} {h : JH} (w : T_X24_count D d Q r0 h) : cX24_count D (d + 1) r0 h Q := by
  unfold T_X24_count at w
  unfold cX24_count
  refine jw_gen (ls' := [none]) (st' := []) (trivial) (trivial) ?_
  exact w_X24_count_0 w
def W_X24_part_0 (D : JD) (d : Nat) (Q : JO → JH → Prop) (h : JH) : Prop :=
  Q (.inl (some (vR 55 0))) h
theorem w_X24_part_0 {D : JD} {d : Nat} {Q : JO → JH → Prop} {h : JH} (w : W_X24_part_0 D d Q h) : JW D (d + 1) mX24_part 0 [none, none] [] h Q := by
  unfold W_X24_part_0 at w
  refine jw_null (pc' := 1) (t := 55) rfl ?_
  exact jw_areturn rfl rfl rfl rfl rfl w
def T_X24_part (D : JD) (d : Nat) (Q : JO → JH → Prop) (r0 : Nat) (x1 : Int32) (h : JH) : Prop := W_X24_part_0 D d Q h
theorem t_X24_part {D : JD} {d : Nat} {Q : JO → JH → Prop} {r0 : Nat} {x1 : Int32} {h : JH} (w : T_X24_part D d Q r0 x1 h) : cX24_part D (d + 1) r0 x1 h Q := by
  unfold T_X24_part at w
  unfold cX24_part
  refine jw_gen (ls' := [none, none]) (st' := []) (trivial) (trivial) ?_
  exact w_X24_part_0 w
def W_X24_grouped_35 (D : JD) (d : Nat) (Q : JO → JH → Prop) (h : JH) : Prop :=
  Q (.inl none) h
theorem w_X24_grouped_35 {D : JD} {d : Nat} {Q : JO → JH → Prop} {h : JH} (w : W_X24_grouped_35 D d Q h) : JW D (d + 1) mX24_grouped 35 [none, none, none] [] h Q := by
  unfold W_X24_grouped_35 at w
  exact jw_return rfl rfl w
def W_X24_grouped_20 (D : JD) (d : Nat) (Q : JO → JH → Prop) (K2 : Nat → Nat → Int32 → JH → Prop) (r0 : Nat) (r1 : Nat) (x2 : Int32) (s0 : Int32) (h : JH) : Prop :=
  (s0 = 0 → K2 r0 r1 (x2 + (1 : Int32)) h) ∧ (¬ s0 = 0 → Q (.inl none) h)
theorem w_X24_grouped_20 {D : JD} {d : Nat} {Q : JO → JH → Prop} {K2 : Nat → Nat → Int32 → JH → Prop} {r0 : Nat} {r1 : Nat} {x2 : Int32} {s0 : Int32} {h : JH} (hK2 : ∀ (r0 : Nat) (r1 : Nat) (x2 : Int32) (h : JH), K2 r0 r1 x2 h → JW D (d + 1) mX24_grouped 2 [some (vR 55 r0), some (vR 6 r1), some (vI x2)] [] h Q) (w : W_X24_grouped_20 D d Q K2 r0 r1 x2 s0 h) : JW D (d + 1) mX24_grouped 20 [some (vR 55 r0), some (vR 6 r1), some (vI x2)] [vI s0] h Q := by
  unfold W_X24_grouped_20 at w
  refine jw_if_eq (tgt := 24) (pc' := 23) rfl rfl (fun c_1 => ?_) (fun c_1 => ?_)
  · replace w := w.1 c_1
    refine jw_iinc (pc' := 27) (y := x2 + (1 : Int32)) (ls' := [some (vR 55 r0), some (vR 6 r1), some (vI (x2 + (1 : Int32)))]) rfl (by decide) rfl rfl rfl ?_
    refine jw_goto (pc' := 2) rfl rfl ?_
    exact hK2 _ _ _ _ w
  · replace w := w.2 c_1
    exact jw_return rfl rfl w
def W_X24_grouped_2 (D : JD) (d : Nat) (Q : JO → JH → Prop) (K2 : Nat → Nat → Int32 → JH → Prop) (r0 : Nat) (r1 : Nat) (x2 : Int32) (h : JH) : Prop :=
  r1 ≠ 0 ∧ (((jfi h 54 r1) ≤ x2 → r0 ≠ 0 ∧ (v55_ungrouped D d r0 r1 h (pV D h (fun h_4 => W_X24_grouped_35 D d Q h_4) (jth Q)))) ∧ (¬ (jfi h 54 r1) ≤ x2 → (jfr h 53 r1) ≠ 0 ∧ jin x2 (jln h (jfr h 53 r1)) ∧ (r0 ≠ 0 ∧ (v55_like D d r0 (jar h (jfr h 53 r1) (ixn x2)) h (pI D h (fun v_13 h_11 => W_X24_grouped_20 D d Q K2 r0 r1 x2 v_13 h_11) (jth Q))))))
theorem w_X24_grouped_2 {D : JD} {d : Nat} {Q : JO → JH → Prop} {K2 : Nat → Nat → Int32 → JH → Prop} {r0 : Nat} {r1 : Nat} {x2 : Int32} {h : JH} (hK2 : ∀ (r0 : Nat) (r1 : Nat) (x2 : Int32) (h : JH), K2 r0 r1 x2 h → JW D (d + 1) mX24_grouped 2 [some (vR 55 r0), some (vR 6 r1), some (vI x2)] [] h Q) (w : W_X24_grouped_2 D d Q K2 r0 r1 x2 h) : JW D (d + 1) mX24_grouped 2 [some (vR 55 r0), some (vR 6 r1), some (vI x2)] [] h Q := by
  unfold W_X24_grouped_2 at w
  refine jw_iload_n (pc' := 3) rfl rfl ?_
  refine jw_aload_n (pc' := 4) rfl rfl ?_
  obtain ⟨g_1, w⟩ := w
  refine jw_getI (pc' := 7) (F := 54) rfl rfl rfl rfl g_1 ?_
  refine jw_icmp_ge (tgt := 30) (pc' := 10) rfl rfl (fun c_2 => ?_) (fun c_2 => ?_)
  · replace w := w.1 c_2
    refine jw_aload_n (pc' := 31) rfl rfl ?_
    refine jw_aload_n (pc' := 32) rfl rfl ?_
    obtain ⟨g_3, w⟩ := w
    refine JW.inv (fun hI => JW.oks (fun ho => ?_))
    have hkd := und55.k hI (ho (vR 55 r0) (by simp)) g_3
    simp only [List.mem_cons, List.not_mem_nil, or_false] at hkd
    clear ho hI
    rcases hkd with e_7 | e_7 | e_7 | e_7 | e_7 | e_7 | e_7 | e_7 | e_7 | e_7
    · refine jw_cV (st := []) (sa := [vR 55 r0, vR 6 r1]) okX24_ungrouped rfl rfl rfl rfl rfl rfl (jstp_up (sa := [vR 6 r1]) (st := []) rfl (lw_g (jtb_mem (c := 11) (i := 105) rfl) rfl) um68 okX24_ungrouped g_3 (fun _ _ => by rw [e_7]; exact ⟨rfl, rfl⟩) rfl rfl) (w.1 e_7) (fun h_4 _ _ w => ?_)
      refine jw_gen (ls' := [none, none, none]) (st' := []) (trivial) (trivial) ?_
      exact w_X24_grouped_35 w
    · refine jw_cV (st := []) (sa := [vR 55 r0, vR 6 r1]) okX24_ungrouped rfl rfl rfl rfl rfl rfl (jstp_up (sa := [vR 6 r1]) (st := []) rfl (lw_g (jtb_mem (c := 11) (i := 105) rfl) rfl) um69 okX24_ungrouped g_3 (fun _ _ => by rw [e_7]; exact ⟨rfl, rfl⟩) rfl rfl) (w.2.1 e_7) (fun h_4 _ _ w => ?_)
      refine jw_gen (ls' := [none, none, none]) (st' := []) (trivial) (trivial) ?_
      exact w_X24_grouped_35 w
    · refine jw_gen (ls' := _) (st' := [vR 6 r1, vR 22 r0]) (jgl_rf _ _) (And.intro (Or.inl rfl) (And.intro (Or.inr ⟨_, _, _, rfl, rfl, Or.inr (Or.inr (by rw [e_7]; rfl))⟩) (jgs_rf _ _))) ?_
      refine jw_cV (st := []) (sa := [vR 22 r0, vR 6 r1]) okX28_ungrouped rfl rfl rfl rfl rfl rfl (jstp_up (sa := [vR 6 r1]) (st := []) rfl (lw_g (jtb_mem (c := 11) (i := 105) rfl) rfl) um70 okX28_ungrouped g_3 (fun _ _ => by rw [e_7]; exact ⟨rfl, rfl⟩) rfl rfl) (w.2.2.1 e_7) (fun h_4 _ _ w => ?_)
      refine jw_gen (ls' := [none, none, none]) (st' := []) (trivial) (trivial) ?_
      exact w_X24_grouped_35 w
    · refine jw_cV (st := []) (sa := [vR 55 r0, vR 6 r1]) okX24_ungrouped rfl rfl rfl rfl rfl rfl (jstp_up (sa := [vR 6 r1]) (st := []) rfl (lw_g (jtb_mem (c := 11) (i := 105) rfl) rfl) um71 okX24_ungrouped g_3 (fun _ _ => by rw [e_7]; exact ⟨rfl, rfl⟩) rfl rfl) (w.2.2.2.1 e_7) (fun h_4 _ _ w => ?_)
      refine jw_gen (ls' := [none, none, none]) (st' := []) (trivial) (trivial) ?_
      exact w_X24_grouped_35 w
    · refine jw_gen (ls' := _) (st' := [vR 6 r1, vR 24 r0]) (jgl_rf _ _) (And.intro (Or.inl rfl) (And.intro (Or.inr ⟨_, _, _, rfl, rfl, Or.inr (Or.inr (by rw [e_7]; rfl))⟩) (jgs_rf _ _))) ?_
      refine jw_cV (st := []) (sa := [vR 24 r0, vR 6 r1]) okX30_ungrouped rfl rfl rfl rfl rfl rfl (jstp_up (sa := [vR 6 r1]) (st := []) rfl (lw_g (jtb_mem (c := 11) (i := 105) rfl) rfl) um72 okX30_ungrouped g_3 (fun _ _ => by rw [e_7]; exact ⟨rfl, rfl⟩) rfl rfl) (w.2.2.2.2.1 e_7) (fun h_4 _ _ w => ?_)
      refine jw_gen (ls' := [none, none, none]) (st' := []) (trivial) (trivial) ?_
      exact w_X24_grouped_35 w
    · refine jw_cV (st := []) (sa := [vR 55 r0, vR 6 r1]) okX24_ungrouped rfl rfl rfl rfl rfl rfl (jstp_up (sa := [vR 6 r1]) (st := []) rfl (lw_g (jtb_mem (c := 11) (i := 105) rfl) rfl) um73 okX24_ungrouped g_3 (fun _ _ => by rw [e_7]; exact ⟨rfl, rfl⟩) rfl rfl) (w.2.2.2.2.2.1 e_7) (fun h_4 _ _ w => ?_)
      refine jw_gen (ls' := [none, none, none]) (st' := []) (trivial) (trivial) ?_
      exact w_X24_grouped_35 w
    · refine jw_cV (st := []) (sa := [vR 55 r0, vR 6 r1]) okX24_ungrouped rfl rfl rfl rfl rfl rfl (jstp_up (sa := [vR 6 r1]) (st := []) rfl (lw_g (jtb_mem (c := 11) (i := 105) rfl) rfl) um74 okX24_ungrouped g_3 (fun _ _ => by rw [e_7]; exact ⟨rfl, rfl⟩) rfl rfl) (w.2.2.2.2.2.2.1 e_7) (fun h_4 _ _ w => ?_)
      refine jw_gen (ls' := [none, none, none]) (st' := []) (trivial) (trivial) ?_
      exact w_X24_grouped_35 w
    · refine jw_cV (st := []) (sa := [vR 55 r0, vR 6 r1]) okX24_ungrouped rfl rfl rfl rfl rfl rfl (jstp_up (sa := [vR 6 r1]) (st := []) rfl (lw_g (jtb_mem (c := 11) (i := 105) rfl) rfl) um75 okX24_ungrouped g_3 (fun _ _ => by rw [e_7]; exact ⟨rfl, rfl⟩) rfl rfl) (w.2.2.2.2.2.2.2.1 e_7) (fun h_4 _ _ w => ?_)
      refine jw_gen (ls' := [none, none, none]) (st' := []) (trivial) (trivial) ?_
      exact w_X24_grouped_35 w
    · refine jw_cV (st := []) (sa := [vR 55 r0, vR 6 r1]) okX24_ungrouped rfl rfl rfl rfl rfl rfl (jstp_up (sa := [vR 6 r1]) (st := []) rfl (lw_g (jtb_mem (c := 11) (i := 105) rfl) rfl) um76 okX24_ungrouped g_3 (fun _ _ => by rw [e_7]; exact ⟨rfl, rfl⟩) rfl rfl) (w.2.2.2.2.2.2.2.2.1 e_7) (fun h_4 _ _ w => ?_)
      refine jw_gen (ls' := [none, none, none]) (st' := []) (trivial) (trivial) ?_
      exact w_X24_grouped_35 w
    · refine jw_cV (st := []) (sa := [vR 55 r0, vR 6 r1]) okX24_ungrouped rfl rfl rfl rfl rfl rfl (jstp_up (sa := [vR 6 r1]) (st := []) rfl (lw_g (jtb_mem (c := 11) (i := 105) rfl) rfl) um77 okX24_ungrouped g_3 (fun _ _ => by rw [e_7]; exact ⟨rfl, rfl⟩) rfl rfl) (w.2.2.2.2.2.2.2.2.2 e_7) (fun h_4 _ _ w => ?_)
      refine jw_gen (ls' := [none, none, none]) (st' := []) (trivial) (trivial) ?_
      exact w_X24_grouped_35 w
  · replace w := w.2 c_2
    refine jw_aload_n (pc' := 11) rfl rfl ?_
    refine jw_aload_n (pc' := 12) rfl rfl ?_
    refine jw_getR (pc' := 15) (F := 53) (t' := 77) rfl rfl rfl rfl rfl g_1 ?_
    refine jw_iload_n (pc' := 16) rfl rfl ?_
    obtain ⟨g_8, w⟩ := w
    obtain ⟨g_9, w⟩ := w
    refine jw_aald (pc' := 17) (t' := 55) rfl rfl rfl rfl g_8 g_9.ix g_9.2 ?_
    obtain ⟨g_10, w⟩ := w
    refine JW.inv (fun hI => JW.oks (fun ho => ?_))
    have hkd := und55.k hI (ho (vR 55 r0) (by simp)) g_10
    simp only [List.mem_cons, List.not_mem_nil, or_false] at hkd
    clear ho hI
    rcases hkd with e_14 | e_14 | e_14 | e_14 | e_14 | e_14 | e_14 | e_14 | e_14 | e_14
    · refine jw_gen (ls' := _) (st' := [vR 55 (jar h (jfr h 53 r1) (ixn x2)), vR 20 r0]) (jgl_rf _ _) (And.intro (Or.inl rfl) (And.intro (Or.inr ⟨_, _, _, rfl, rfl, Or.inr (Or.inr (by rw [e_14]; rfl))⟩) (jgs_rf _ _))) ?_
      refine jw_cI (st := []) (sa := [vR 20 r0, vR 55 (jar h (jfr h 53 r1) (ixn x2))]) okX25_like rfl rfl rfl rfl rfl rfl (jstp_up (sa := [vR 55 (jar h (jfr h 53 r1) (ixn x2))]) (st := []) rfl (lw_g (jtb_mem (c := 11) (i := 27) rfl) rfl) um78 okX25_like g_10 (fun _ _ => by rw [e_14]; exact ⟨rfl, rfl⟩) rfl rfl) (w.1 e_14) (fun v_13 h_11 _ _ w => ?_)
      exact w_X24_grouped_20 hK2 w
    · refine jw_gen (ls' := _) (st' := [vR 55 (jar h (jfr h 53 r1) (ixn x2)), vR 21 r0]) (jgl_rf _ _) (And.intro (Or.inl rfl) (And.intro (Or.inr ⟨_, _, _, rfl, rfl, Or.inr (Or.inr (by rw [e_14]; rfl))⟩) (jgs_rf _ _))) ?_
      refine jw_cI (st := []) (sa := [vR 21 r0, vR 55 (jar h (jfr h 53 r1) (ixn x2))]) okX27_like rfl rfl rfl rfl rfl rfl (jstp_up (sa := [vR 55 (jar h (jfr h 53 r1) (ixn x2))]) (st := []) rfl (lw_g (jtb_mem (c := 11) (i := 27) rfl) rfl) um79 okX27_like g_10 (fun _ _ => by rw [e_14]; exact ⟨rfl, rfl⟩) rfl rfl) (w.2.1 e_14) (fun v_13 h_11 _ _ w => ?_)
      exact w_X24_grouped_20 hK2 w
    · refine jw_gen (ls' := _) (st' := [vR 55 (jar h (jfr h 53 r1) (ixn x2)), vR 22 r0]) (jgl_rf _ _) (And.intro (Or.inl rfl) (And.intro (Or.inr ⟨_, _, _, rfl, rfl, Or.inr (Or.inr (by rw [e_14]; rfl))⟩) (jgs_rf _ _))) ?_
      refine jw_cI (st := []) (sa := [vR 22 r0, vR 55 (jar h (jfr h 53 r1) (ixn x2))]) okX28_like rfl rfl rfl rfl rfl rfl (jstp_up (sa := [vR 55 (jar h (jfr h 53 r1) (ixn x2))]) (st := []) rfl (lw_g (jtb_mem (c := 11) (i := 27) rfl) rfl) um80 okX28_like g_10 (fun _ _ => by rw [e_14]; exact ⟨rfl, rfl⟩) rfl rfl) (w.2.2.1 e_14) (fun v_13 h_11 _ _ w => ?_)
      exact w_X24_grouped_20 hK2 w
    · refine jw_gen (ls' := _) (st' := [vR 55 (jar h (jfr h 53 r1) (ixn x2)), vR 23 r0]) (jgl_rf _ _) (And.intro (Or.inl rfl) (And.intro (Or.inr ⟨_, _, _, rfl, rfl, Or.inr (Or.inr (by rw [e_14]; rfl))⟩) (jgs_rf _ _))) ?_
      refine jw_cI (st := []) (sa := [vR 23 r0, vR 55 (jar h (jfr h 53 r1) (ixn x2))]) okX29_like rfl rfl rfl rfl rfl rfl (jstp_up (sa := [vR 55 (jar h (jfr h 53 r1) (ixn x2))]) (st := []) rfl (lw_g (jtb_mem (c := 11) (i := 27) rfl) rfl) um81 okX29_like g_10 (fun _ _ => by rw [e_14]; exact ⟨rfl, rfl⟩) rfl rfl) (w.2.2.2.1 e_14) (fun v_13 h_11 _ _ w => ?_)
      exact w_X24_grouped_20 hK2 w
    · refine jw_gen (ls' := _) (st' := [vR 55 (jar h (jfr h 53 r1) (ixn x2)), vR 24 r0]) (jgl_rf _ _) (And.intro (Or.inl rfl) (And.intro (Or.inr ⟨_, _, _, rfl, rfl, Or.inr (Or.inr (by rw [e_14]; rfl))⟩) (jgs_rf _ _))) ?_
      refine jw_cI (st := []) (sa := [vR 24 r0, vR 55 (jar h (jfr h 53 r1) (ixn x2))]) okX30_like rfl rfl rfl rfl rfl rfl (jstp_up (sa := [vR 55 (jar h (jfr h 53 r1) (ixn x2))]) (st := []) rfl (lw_g (jtb_mem (c := 11) (i := 27) rfl) rfl) um82 okX30_like g_10 (fun _ _ => by rw [e_14]; exact ⟨rfl, rfl⟩) rfl rfl) (w.2.2.2.2.1 e_14) (fun v_13 h_11 _ _ w => ?_)
      exact w_X24_grouped_20 hK2 w
    · refine jw_gen (ls' := _) (st' := [vR 55 (jar h (jfr h 53 r1) (ixn x2)), vR 25 r0]) (jgl_rf _ _) (And.intro (Or.inl rfl) (And.intro (Or.inr ⟨_, _, _, rfl, rfl, Or.inr (Or.inr (by rw [e_14]; rfl))⟩) (jgs_rf _ _))) ?_
      refine jw_cI (st := []) (sa := [vR 25 r0, vR 55 (jar h (jfr h 53 r1) (ixn x2))]) okX31_like rfl rfl rfl rfl rfl rfl (jstp_up (sa := [vR 55 (jar h (jfr h 53 r1) (ixn x2))]) (st := []) rfl (lw_g (jtb_mem (c := 11) (i := 27) rfl) rfl) um83 okX31_like g_10 (fun _ _ => by rw [e_14]; exact ⟨rfl, rfl⟩) rfl rfl) (w.2.2.2.2.2.1 e_14) (fun v_13 h_11 _ _ w => ?_)
      exact w_X24_grouped_20 hK2 w
    · refine jw_gen (ls' := _) (st' := [vR 55 (jar h (jfr h 53 r1) (ixn x2)), vR 26 r0]) (jgl_rf _ _) (And.intro (Or.inl rfl) (And.intro (Or.inr ⟨_, _, _, rfl, rfl, Or.inr (Or.inr (by rw [e_14]; rfl))⟩) (jgs_rf _ _))) ?_
      refine jw_cI (st := []) (sa := [vR 26 r0, vR 55 (jar h (jfr h 53 r1) (ixn x2))]) okX32_like rfl rfl rfl rfl rfl rfl (jstp_up (sa := [vR 55 (jar h (jfr h 53 r1) (ixn x2))]) (st := []) rfl (lw_g (jtb_mem (c := 11) (i := 27) rfl) rfl) um84 okX32_like g_10 (fun _ _ => by rw [e_14]; exact ⟨rfl, rfl⟩) rfl rfl) (w.2.2.2.2.2.2.1 e_14) (fun v_13 h_11 _ _ w => ?_)
      exact w_X24_grouped_20 hK2 w
    · refine jw_gen (ls' := _) (st' := [vR 55 (jar h (jfr h 53 r1) (ixn x2)), vR 27 r0]) (jgl_rf _ _) (And.intro (Or.inl rfl) (And.intro (Or.inr ⟨_, _, _, rfl, rfl, Or.inr (Or.inr (by rw [e_14]; rfl))⟩) (jgs_rf _ _))) ?_
      refine jw_cI (st := []) (sa := [vR 27 r0, vR 55 (jar h (jfr h 53 r1) (ixn x2))]) okX33_like rfl rfl rfl rfl rfl rfl (jstp_up (sa := [vR 55 (jar h (jfr h 53 r1) (ixn x2))]) (st := []) rfl (lw_g (jtb_mem (c := 11) (i := 27) rfl) rfl) um85 okX33_like g_10 (fun _ _ => by rw [e_14]; exact ⟨rfl, rfl⟩) rfl rfl) (w.2.2.2.2.2.2.2.1 e_14) (fun v_13 h_11 _ _ w => ?_)
      exact w_X24_grouped_20 hK2 w
    · refine jw_gen (ls' := _) (st' := [vR 55 (jar h (jfr h 53 r1) (ixn x2)), vR 28 r0]) (jgl_rf _ _) (And.intro (Or.inl rfl) (And.intro (Or.inr ⟨_, _, _, rfl, rfl, Or.inr (Or.inr (by rw [e_14]; rfl))⟩) (jgs_rf _ _))) ?_
      refine jw_cI (st := []) (sa := [vR 28 r0, vR 55 (jar h (jfr h 53 r1) (ixn x2))]) okX34_like rfl rfl rfl rfl rfl rfl (jstp_up (sa := [vR 55 (jar h (jfr h 53 r1) (ixn x2))]) (st := []) rfl (lw_g (jtb_mem (c := 11) (i := 27) rfl) rfl) um86 okX34_like g_10 (fun _ _ => by rw [e_14]; exact ⟨rfl, rfl⟩) rfl rfl) (w.2.2.2.2.2.2.2.2.1 e_14) (fun v_13 h_11 _ _ w => ?_)
      exact w_X24_grouped_20 hK2 w
    · refine jw_gen (ls' := _) (st' := [vR 55 (jar h (jfr h 53 r1) (ixn x2)), vR 29 r0]) (jgl_rf _ _) (And.intro (Or.inl rfl) (And.intro (Or.inr ⟨_, _, _, rfl, rfl, Or.inr (Or.inr (by rw [e_14]; rfl))⟩) (jgs_rf _ _))) ?_
      refine jw_cI (st := []) (sa := [vR 29 r0, vR 55 (jar h (jfr h 53 r1) (ixn x2))]) okX35_like rfl rfl rfl rfl rfl rfl (jstp_up (sa := [vR 55 (jar h (jfr h 53 r1) (ixn x2))]) (st := []) rfl (lw_g (jtb_mem (c := 11) (i := 27) rfl) rfl) um87 okX35_like g_10 (fun _ _ => by rw [e_14]; exact ⟨rfl, rfl⟩) rfl rfl) (w.2.2.2.2.2.2.2.2.2 e_14) (fun v_13 h_11 _ _ w => ?_)
      exact w_X24_grouped_20 hK2 w
def L_X24_grouped_2 (D : JD) (d : Nat) (Q : JO → JH → Prop) : Nat → Nat → Nat → Int32 → JH → Prop
  | 0 => fun _ _ _ _ => False
  | n + 1 => fun r0 r1 x2 h => W_X24_grouped_2 D d Q (L_X24_grouped_2 D d Q n) r0 r1 x2 h
theorem l_X24_grouped_2 {D : JD} {d : Nat} {Q : JO → JH → Prop} : ∀ (n : Nat) (r0 : Nat) (r1 : Nat) (x2 : Int32) (h : JH), L_X24_grouped_2 D d Q n r0 r1 x2 h → JW D (d + 1) mX24_grouped 2 [some (vR 55 r0), some (vR 6 r1), some (vI x2)] [] h Q := by
  intro n
  induction n with
  | zero => intro _ _ _ _ w; exact w.elim
  | succ n ih => intro _ _ _ h w; exact w_X24_grouped_2 ih w
def W_X24_grouped_0 (D : JD) (d : Nat) (Q : JO → JH → Prop) (r0 : Nat) (r1 : Nat) (h : JH) : Prop :=
  ∃ n, L_X24_grouped_2 D d Q n r0 r1 (0 : Int32) h
theorem w_X24_grouped_0 {D : JD} {d : Nat} {Q : JO → JH → Prop} {r0 : Nat} {r1 : Nat} {h : JH} (w : W_X24_grouped_0 D d Q r0 r1 h) : JW D (d + 1) mX24_grouped 0 [some (vR 55 r0), some (vR 6 r1), none] [] h Q := by
  unfold W_X24_grouped_0 at w
  refine jw_iconst (pc' := 1) (x := (0 : Int32)) rfl rfl ?_
  refine jw_istore_n (pc' := 2) (ls' := [some (vR 55 r0), some (vR 6 r1), some (vI (0 : Int32))]) rfl (by decide) rfl ?_
  obtain ⟨n, w⟩ := w
  exact l_X24_grouped_2 n _ _ _ _ w
def T_X24_grouped (D : JD) (d : Nat) (Q : JO → JH → Prop) (r0 : Nat) (r1 : Nat) (h : JH) : Prop := W_X24_grouped_0 D d Q r0 r1 h
theorem t_X24_grouped {D : JD} {d : Nat} {Q : JO → JH → Prop} {r0 : Nat} {r1 : Nat} {h : JH} (w : T_X24_grouped D d Q r0 r1 h) : cX24_grouped D (d + 1) r0 r1 h Q := by
  unfold T_X24_grouped at w
  unfold cX24_grouped
  exact w_X24_grouped_0 w
def W_X24_likeParts_36 (D : JD) (d : Nat) (Q : JO → JH → Prop) (K15 : Nat → Nat → Int32 → JH → Prop) (r0 : Nat) (r1 : Nat) (x2 : Int32) (s0 : Int32) (h : JH) : Prop :=
  (¬ s0 = 0 → K15 r0 r1 (x2 + (1 : Int32)) h) ∧ (s0 = 0 → Q (.inl (some (vI (0 : Int32)))) h)
theorem w_X24_likeParts_36 {D : JD} {d : Nat} {Q : JO → JH → Prop} {K15 : Nat → Nat → Int32 → JH → Prop} {r0 : Nat} {r1 : Nat} {x2 : Int32} {s0 : Int32} {h : JH} (hK15 : ∀ (r0 : Nat) (r1 : Nat) (x2 : Int32) (h : JH), K15 r0 r1 x2 h → JW D (d + 1) mX24_likeParts 15 [some (vR 55 r0), some (vR 55 r1), some (vI x2)] [] h Q) (w : W_X24_likeParts_36 D d Q K15 r0 r1 x2 s0 h) : JW D (d + 1) mX24_likeParts 36 [some (vR 55 r0), some (vR 55 r1), some (vI x2)] [vI s0] h Q := by
  unfold W_X24_likeParts_36 at w
  refine jw_if_ne (tgt := 41) (pc' := 39) rfl rfl (fun c_1 => ?_) (fun c_1 => ?_)
  · replace w := w.1 c_1
    refine jw_iinc (pc' := 44) (y := x2 + (1 : Int32)) (ls' := [some (vR 55 r0), some (vR 55 r1), some (vI (x2 + (1 : Int32)))]) rfl (by decide) rfl rfl rfl ?_
    refine jw_goto (pc' := 15) rfl rfl ?_
    exact hK15 _ _ _ _ w
  · replace w := w.2 c_1
    refine jw_iconst (pc' := 40) (x := (0 : Int32)) rfl rfl ?_
    exact jw_ireturn rfl rfl (rfl) w
def W_X24_likeParts_33 (D : JD) (d : Nat) (Q : JO → JH → Prop) (K15 : Nat → Nat → Int32 → JH → Prop) (r0 : Nat) (r1 : Nat) (x2 : Int32) (q0 : Nat) (q1 : Nat) (h : JH) : Prop :=
  q0 ≠ 0 ∧ (v55_like D d q0 q1 h (pI D h (fun v_4 h_2 => W_X24_likeParts_36 D d Q K15 r0 r1 x2 v_4 h_2) (jth Q)))
theorem w_X24_likeParts_33 {D : JD} {d : Nat} {Q : JO → JH → Prop} {K15 : Nat → Nat → Int32 → JH → Prop} {r0 : Nat} {r1 : Nat} {x2 : Int32} {q0 : Nat} {q1 : Nat} {h : JH} (hK15 : ∀ (r0 : Nat) (r1 : Nat) (x2 : Int32) (h : JH), K15 r0 r1 x2 h → JW D (d + 1) mX24_likeParts 15 [some (vR 55 r0), some (vR 55 r1), some (vI x2)] [] h Q) (w : W_X24_likeParts_33 D d Q K15 r0 r1 x2 q0 q1 h) : JW D (d + 1) mX24_likeParts 33 [some (vR 55 r0), some (vR 55 r1), some (vI x2)] [vR 55 q1, vR 55 q0] h Q := by
  unfold W_X24_likeParts_33 at w
  obtain ⟨g_1, w⟩ := w
  refine JW.inv (fun hI => JW.oks (fun ho => ?_))
  have hkd := und55.k hI (ho (vR 55 q0) (by simp)) g_1
  simp only [List.mem_cons, List.not_mem_nil, or_false] at hkd
  clear ho hI
  rcases hkd with e_5 | e_5 | e_5 | e_5 | e_5 | e_5 | e_5 | e_5 | e_5 | e_5
  · refine jw_gen (ls' := _) (st' := [vR 55 q1, vR 20 q0]) (jgl_rf _ _) (And.intro (Or.inl rfl) (And.intro (Or.inr ⟨_, _, _, rfl, rfl, Or.inr (Or.inr (by rw [e_5]; rfl))⟩) (jgs_rf _ _))) ?_
    refine jw_cI (st := []) (sa := [vR 20 q0, vR 55 q1]) okX25_like rfl rfl rfl rfl rfl rfl (jstp_up (sa := [vR 55 q1]) (st := []) rfl (lw_g (jtb_mem (c := 11) (i := 27) rfl) rfl) um78 okX25_like g_1 (fun _ _ => by rw [e_5]; exact ⟨rfl, rfl⟩) rfl rfl) (w.1 e_5) (fun v_4 h_2 _ _ w => ?_)
    exact w_X24_likeParts_36 hK15 w
  · refine jw_gen (ls' := _) (st' := [vR 55 q1, vR 21 q0]) (jgl_rf _ _) (And.intro (Or.inl rfl) (And.intro (Or.inr ⟨_, _, _, rfl, rfl, Or.inr (Or.inr (by rw [e_5]; rfl))⟩) (jgs_rf _ _))) ?_
    refine jw_cI (st := []) (sa := [vR 21 q0, vR 55 q1]) okX27_like rfl rfl rfl rfl rfl rfl (jstp_up (sa := [vR 55 q1]) (st := []) rfl (lw_g (jtb_mem (c := 11) (i := 27) rfl) rfl) um79 okX27_like g_1 (fun _ _ => by rw [e_5]; exact ⟨rfl, rfl⟩) rfl rfl) (w.2.1 e_5) (fun v_4 h_2 _ _ w => ?_)
    exact w_X24_likeParts_36 hK15 w
  · refine jw_gen (ls' := _) (st' := [vR 55 q1, vR 22 q0]) (jgl_rf _ _) (And.intro (Or.inl rfl) (And.intro (Or.inr ⟨_, _, _, rfl, rfl, Or.inr (Or.inr (by rw [e_5]; rfl))⟩) (jgs_rf _ _))) ?_
    refine jw_cI (st := []) (sa := [vR 22 q0, vR 55 q1]) okX28_like rfl rfl rfl rfl rfl rfl (jstp_up (sa := [vR 55 q1]) (st := []) rfl (lw_g (jtb_mem (c := 11) (i := 27) rfl) rfl) um80 okX28_like g_1 (fun _ _ => by rw [e_5]; exact ⟨rfl, rfl⟩) rfl rfl) (w.2.2.1 e_5) (fun v_4 h_2 _ _ w => ?_)
    exact w_X24_likeParts_36 hK15 w
  · refine jw_gen (ls' := _) (st' := [vR 55 q1, vR 23 q0]) (jgl_rf _ _) (And.intro (Or.inl rfl) (And.intro (Or.inr ⟨_, _, _, rfl, rfl, Or.inr (Or.inr (by rw [e_5]; rfl))⟩) (jgs_rf _ _))) ?_
    refine jw_cI (st := []) (sa := [vR 23 q0, vR 55 q1]) okX29_like rfl rfl rfl rfl rfl rfl (jstp_up (sa := [vR 55 q1]) (st := []) rfl (lw_g (jtb_mem (c := 11) (i := 27) rfl) rfl) um81 okX29_like g_1 (fun _ _ => by rw [e_5]; exact ⟨rfl, rfl⟩) rfl rfl) (w.2.2.2.1 e_5) (fun v_4 h_2 _ _ w => ?_)
    exact w_X24_likeParts_36 hK15 w
  · refine jw_gen (ls' := _) (st' := [vR 55 q1, vR 24 q0]) (jgl_rf _ _) (And.intro (Or.inl rfl) (And.intro (Or.inr ⟨_, _, _, rfl, rfl, Or.inr (Or.inr (by rw [e_5]; rfl))⟩) (jgs_rf _ _))) ?_
    refine jw_cI (st := []) (sa := [vR 24 q0, vR 55 q1]) okX30_like rfl rfl rfl rfl rfl rfl (jstp_up (sa := [vR 55 q1]) (st := []) rfl (lw_g (jtb_mem (c := 11) (i := 27) rfl) rfl) um82 okX30_like g_1 (fun _ _ => by rw [e_5]; exact ⟨rfl, rfl⟩) rfl rfl) (w.2.2.2.2.1 e_5) (fun v_4 h_2 _ _ w => ?_)
    exact w_X24_likeParts_36 hK15 w
  · refine jw_gen (ls' := _) (st' := [vR 55 q1, vR 25 q0]) (jgl_rf _ _) (And.intro (Or.inl rfl) (And.intro (Or.inr ⟨_, _, _, rfl, rfl, Or.inr (Or.inr (by rw [e_5]; rfl))⟩) (jgs_rf _ _))) ?_
    refine jw_cI (st := []) (sa := [vR 25 q0, vR 55 q1]) okX31_like rfl rfl rfl rfl rfl rfl (jstp_up (sa := [vR 55 q1]) (st := []) rfl (lw_g (jtb_mem (c := 11) (i := 27) rfl) rfl) um83 okX31_like g_1 (fun _ _ => by rw [e_5]; exact ⟨rfl, rfl⟩) rfl rfl) (w.2.2.2.2.2.1 e_5) (fun v_4 h_2 _ _ w => ?_)
    exact w_X24_likeParts_36 hK15 w
  · refine jw_gen (ls' := _) (st' := [vR 55 q1, vR 26 q0]) (jgl_rf _ _) (And.intro (Or.inl rfl) (And.intro (Or.inr ⟨_, _, _, rfl, rfl, Or.inr (Or.inr (by rw [e_5]; rfl))⟩) (jgs_rf _ _))) ?_
    refine jw_cI (st := []) (sa := [vR 26 q0, vR 55 q1]) okX32_like rfl rfl rfl rfl rfl rfl (jstp_up (sa := [vR 55 q1]) (st := []) rfl (lw_g (jtb_mem (c := 11) (i := 27) rfl) rfl) um84 okX32_like g_1 (fun _ _ => by rw [e_5]; exact ⟨rfl, rfl⟩) rfl rfl) (w.2.2.2.2.2.2.1 e_5) (fun v_4 h_2 _ _ w => ?_)
    exact w_X24_likeParts_36 hK15 w
  · refine jw_gen (ls' := _) (st' := [vR 55 q1, vR 27 q0]) (jgl_rf _ _) (And.intro (Or.inl rfl) (And.intro (Or.inr ⟨_, _, _, rfl, rfl, Or.inr (Or.inr (by rw [e_5]; rfl))⟩) (jgs_rf _ _))) ?_
    refine jw_cI (st := []) (sa := [vR 27 q0, vR 55 q1]) okX33_like rfl rfl rfl rfl rfl rfl (jstp_up (sa := [vR 55 q1]) (st := []) rfl (lw_g (jtb_mem (c := 11) (i := 27) rfl) rfl) um85 okX33_like g_1 (fun _ _ => by rw [e_5]; exact ⟨rfl, rfl⟩) rfl rfl) (w.2.2.2.2.2.2.2.1 e_5) (fun v_4 h_2 _ _ w => ?_)
    exact w_X24_likeParts_36 hK15 w
  · refine jw_gen (ls' := _) (st' := [vR 55 q1, vR 28 q0]) (jgl_rf _ _) (And.intro (Or.inl rfl) (And.intro (Or.inr ⟨_, _, _, rfl, rfl, Or.inr (Or.inr (by rw [e_5]; rfl))⟩) (jgs_rf _ _))) ?_
    refine jw_cI (st := []) (sa := [vR 28 q0, vR 55 q1]) okX34_like rfl rfl rfl rfl rfl rfl (jstp_up (sa := [vR 55 q1]) (st := []) rfl (lw_g (jtb_mem (c := 11) (i := 27) rfl) rfl) um86 okX34_like g_1 (fun _ _ => by rw [e_5]; exact ⟨rfl, rfl⟩) rfl rfl) (w.2.2.2.2.2.2.2.2.1 e_5) (fun v_4 h_2 _ _ w => ?_)
    exact w_X24_likeParts_36 hK15 w
  · refine jw_gen (ls' := _) (st' := [vR 55 q1, vR 29 q0]) (jgl_rf _ _) (And.intro (Or.inl rfl) (And.intro (Or.inr ⟨_, _, _, rfl, rfl, Or.inr (Or.inr (by rw [e_5]; rfl))⟩) (jgs_rf _ _))) ?_
    refine jw_cI (st := []) (sa := [vR 29 q0, vR 55 q1]) okX35_like rfl rfl rfl rfl rfl rfl (jstp_up (sa := [vR 55 q1]) (st := []) rfl (lw_g (jtb_mem (c := 11) (i := 27) rfl) rfl) um87 okX35_like g_1 (fun _ _ => by rw [e_5]; exact ⟨rfl, rfl⟩) rfl rfl) (w.2.2.2.2.2.2.2.2.2 e_5) (fun v_4 h_2 _ _ w => ?_)
    exact w_X24_likeParts_36 hK15 w
def W_X24_likeParts_28 (D : JD) (d : Nat) (Q : JO → JH → Prop) (K15 : Nat → Nat → Int32 → JH → Prop) (r0 : Nat) (r1 : Nat) (x2 : Int32) (q0 : Nat) (h : JH) : Prop :=
  r1 ≠ 0 ∧ (v55_part D d r1 x2 h (pR D h 55 (fun v_4 h_2 => W_X24_likeParts_33 D d Q K15 r0 r1 x2 q0 v_4 h_2) (jth Q)))
theorem w_X24_likeParts_28 {D : JD} {d : Nat} {Q : JO → JH → Prop} {K15 : Nat → Nat → Int32 → JH → Prop} {r0 : Nat} {r1 : Nat} {x2 : Int32} {q0 : Nat} {h : JH} (hK15 : ∀ (r0 : Nat) (r1 : Nat) (x2 : Int32) (h : JH), K15 r0 r1 x2 h → JW D (d + 1) mX24_likeParts 15 [some (vR 55 r0), some (vR 55 r1), some (vI x2)] [] h Q) (w : W_X24_likeParts_28 D d Q K15 r0 r1 x2 q0 h) : JW D (d + 1) mX24_likeParts 28 [some (vR 55 r0), some (vR 55 r1), some (vI x2)] [vR 55 q0] h Q := by
  unfold W_X24_likeParts_28 at w
  refine jw_aload_n (pc' := 29) rfl rfl ?_
  refine jw_iload_n (pc' := 30) rfl rfl ?_
  obtain ⟨g_1, w⟩ := w
  refine JW.inv (fun hI => JW.oks (fun ho => ?_))
  have hkd := und55.k hI (ho (vR 55 r1) (by simp)) g_1
  simp only [List.mem_cons, List.not_mem_nil, or_false] at hkd
  clear ho hI
  rcases hkd with e_5 | e_5 | e_5 | e_5 | e_5 | e_5 | e_5 | e_5 | e_5 | e_5
  · refine jw_cR (st := [vR 55 q0]) (sa := [vR 55 r1, vI x2]) okX24_part rfl rfl rfl rfl rfl rfl (jstp_up (sa := [vI x2]) (st := [vR 55 q0]) rfl (lw_g (jtb_mem (c := 10) (i := 230) rfl) rfl) um48 okX24_part g_1 (fun _ _ => by rw [e_5]; exact ⟨rfl, rfl⟩) rfl rfl) (w.1 e_5) (fun v_4 h_2 _ _ _ w => ?_)
    exact w_X24_likeParts_33 hK15 w
  · refine jw_gen (ls' := _) (st' := [vI x2, vR 21 r1, vR 55 q0]) (jgl_rf _ _) (And.intro (Or.inl rfl) (And.intro (Or.inr ⟨_, _, _, rfl, rfl, Or.inr (Or.inr (by rw [e_5]; rfl))⟩) (jgs_rf _ _))) ?_
    refine jw_cR (st := [vR 55 q0]) (sa := [vR 21 r1, vI x2]) okX26_part rfl rfl rfl rfl rfl rfl (jstp_up (sa := [vI x2]) (st := [vR 55 q0]) rfl (lw_g (jtb_mem (c := 10) (i := 230) rfl) rfl) um49 okX26_part g_1 (fun _ _ => by rw [e_5]; exact ⟨rfl, rfl⟩) rfl rfl) (w.2.1 e_5) (fun v_4 h_2 _ _ _ w => ?_)
    exact w_X24_likeParts_33 hK15 w
  · refine jw_gen (ls' := _) (st' := [vI x2, vR 22 r1, vR 55 q0]) (jgl_rf _ _) (And.intro (Or.inl rfl) (And.intro (Or.inr ⟨_, _, _, rfl, rfl, Or.inr (Or.inr (by rw [e_5]; rfl))⟩) (jgs_rf _ _))) ?_
    refine jw_cR (st := [vR 55 q0]) (sa := [vR 22 r1, vI x2]) okX26_part rfl rfl rfl rfl rfl rfl (jstp_up (sa := [vI x2]) (st := [vR 55 q0]) rfl (lw_g (jtb_mem (c := 10) (i := 230) rfl) rfl) um50 okX26_part g_1 (fun _ _ => by rw [e_5]; exact ⟨rfl, rfl⟩) rfl rfl) (w.2.2.1 e_5) (fun v_4 h_2 _ _ _ w => ?_)
    exact w_X24_likeParts_33 hK15 w
  · refine jw_gen (ls' := _) (st' := [vI x2, vR 23 r1, vR 55 q0]) (jgl_rf _ _) (And.intro (Or.inl rfl) (And.intro (Or.inr ⟨_, _, _, rfl, rfl, Or.inr (Or.inr (by rw [e_5]; rfl))⟩) (jgs_rf _ _))) ?_
    refine jw_cR (st := [vR 55 q0]) (sa := [vR 23 r1, vI x2]) okX26_part rfl rfl rfl rfl rfl rfl (jstp_up (sa := [vI x2]) (st := [vR 55 q0]) rfl (lw_g (jtb_mem (c := 10) (i := 230) rfl) rfl) um51 okX26_part g_1 (fun _ _ => by rw [e_5]; exact ⟨rfl, rfl⟩) rfl rfl) (w.2.2.2.1 e_5) (fun v_4 h_2 _ _ _ w => ?_)
    exact w_X24_likeParts_33 hK15 w
  · refine jw_cR (st := [vR 55 q0]) (sa := [vR 55 r1, vI x2]) okX24_part rfl rfl rfl rfl rfl rfl (jstp_up (sa := [vI x2]) (st := [vR 55 q0]) rfl (lw_g (jtb_mem (c := 10) (i := 230) rfl) rfl) um52 okX24_part g_1 (fun _ _ => by rw [e_5]; exact ⟨rfl, rfl⟩) rfl rfl) (w.2.2.2.2.1 e_5) (fun v_4 h_2 _ _ _ w => ?_)
    exact w_X24_likeParts_33 hK15 w
  · refine jw_cR (st := [vR 55 q0]) (sa := [vR 55 r1, vI x2]) okX24_part rfl rfl rfl rfl rfl rfl (jstp_up (sa := [vI x2]) (st := [vR 55 q0]) rfl (lw_g (jtb_mem (c := 10) (i := 230) rfl) rfl) um53 okX24_part g_1 (fun _ _ => by rw [e_5]; exact ⟨rfl, rfl⟩) rfl rfl) (w.2.2.2.2.2.1 e_5) (fun v_4 h_2 _ _ _ w => ?_)
    exact w_X24_likeParts_33 hK15 w
  · refine jw_gen (ls' := _) (st' := [vI x2, vR 26 r1, vR 55 q0]) (jgl_rf _ _) (And.intro (Or.inl rfl) (And.intro (Or.inr ⟨_, _, _, rfl, rfl, Or.inr (Or.inr (by rw [e_5]; rfl))⟩) (jgs_rf _ _))) ?_
    refine jw_cR (st := [vR 55 q0]) (sa := [vR 26 r1, vI x2]) okX32_part rfl rfl rfl rfl rfl rfl (jstp_up (sa := [vI x2]) (st := [vR 55 q0]) rfl (lw_g (jtb_mem (c := 10) (i := 230) rfl) rfl) um54 okX32_part g_1 (fun _ _ => by rw [e_5]; exact ⟨rfl, rfl⟩) rfl rfl) (w.2.2.2.2.2.2.1 e_5) (fun v_4 h_2 _ _ _ w => ?_)
    exact w_X24_likeParts_33 hK15 w
  · refine jw_gen (ls' := _) (st' := [vI x2, vR 27 r1, vR 55 q0]) (jgl_rf _ _) (And.intro (Or.inl rfl) (And.intro (Or.inr ⟨_, _, _, rfl, rfl, Or.inr (Or.inr (by rw [e_5]; rfl))⟩) (jgs_rf _ _))) ?_
    refine jw_cR (st := [vR 55 q0]) (sa := [vR 27 r1, vI x2]) okX33_part rfl rfl rfl rfl rfl rfl (jstp_up (sa := [vI x2]) (st := [vR 55 q0]) rfl (lw_g (jtb_mem (c := 10) (i := 230) rfl) rfl) um55 okX33_part g_1 (fun _ _ => by rw [e_5]; exact ⟨rfl, rfl⟩) rfl rfl) (w.2.2.2.2.2.2.2.1 e_5) (fun v_4 h_2 _ _ _ w => ?_)
    exact w_X24_likeParts_33 hK15 w
  · refine jw_gen (ls' := _) (st' := [vI x2, vR 28 r1, vR 55 q0]) (jgl_rf _ _) (And.intro (Or.inl rfl) (And.intro (Or.inr ⟨_, _, _, rfl, rfl, Or.inr (Or.inr (by rw [e_5]; rfl))⟩) (jgs_rf _ _))) ?_
    refine jw_cR (st := [vR 55 q0]) (sa := [vR 28 r1, vI x2]) okX34_part rfl rfl rfl rfl rfl rfl (jstp_up (sa := [vI x2]) (st := [vR 55 q0]) rfl (lw_g (jtb_mem (c := 10) (i := 230) rfl) rfl) um56 okX34_part g_1 (fun _ _ => by rw [e_5]; exact ⟨rfl, rfl⟩) rfl rfl) (w.2.2.2.2.2.2.2.2.1 e_5) (fun v_4 h_2 _ _ _ w => ?_)
    exact w_X24_likeParts_33 hK15 w
  · refine jw_gen (ls' := _) (st' := [vI x2, vR 29 r1, vR 55 q0]) (jgl_rf _ _) (And.intro (Or.inl rfl) (And.intro (Or.inr ⟨_, _, _, rfl, rfl, Or.inr (Or.inr (by rw [e_5]; rfl))⟩) (jgs_rf _ _))) ?_
    refine jw_cR (st := [vR 55 q0]) (sa := [vR 29 r1, vI x2]) okX26_part rfl rfl rfl rfl rfl rfl (jstp_up (sa := [vI x2]) (st := [vR 55 q0]) rfl (lw_g (jtb_mem (c := 10) (i := 230) rfl) rfl) um57 okX26_part g_1 (fun _ _ => by rw [e_5]; exact ⟨rfl, rfl⟩) rfl rfl) (w.2.2.2.2.2.2.2.2.2 e_5) (fun v_4 h_2 _ _ _ w => ?_)
    exact w_X24_likeParts_33 hK15 w
def W_X24_likeParts_20 (D : JD) (d : Nat) (Q : JO → JH → Prop) (K15 : Nat → Nat → Int32 → JH → Prop) (r0 : Nat) (r1 : Nat) (x2 : Int32) (s0 : Int32) (s1 : Int32) (h : JH) : Prop :=
  (s1 ≤ s0 → Q (.inl (some (vI (1 : Int32)))) h) ∧ (¬ s1 ≤ s0 → r0 ≠ 0 ∧ (v55_part D d r0 x2 h (pR D h 55 (fun v_5 h_3 => W_X24_likeParts_28 D d Q K15 r0 r1 x2 v_5 h_3) (jth Q))))
theorem w_X24_likeParts_20 {D : JD} {d : Nat} {Q : JO → JH → Prop} {K15 : Nat → Nat → Int32 → JH → Prop} {r0 : Nat} {r1 : Nat} {x2 : Int32} {s0 : Int32} {s1 : Int32} {h : JH} (hK15 : ∀ (r0 : Nat) (r1 : Nat) (x2 : Int32) (h : JH), K15 r0 r1 x2 h → JW D (d + 1) mX24_likeParts 15 [some (vR 55 r0), some (vR 55 r1), some (vI x2)] [] h Q) (w : W_X24_likeParts_20 D d Q K15 r0 r1 x2 s0 s1 h) : JW D (d + 1) mX24_likeParts 20 [some (vR 55 r0), some (vR 55 r1), some (vI x2)] [vI s1, vI s0] h Q := by
  unfold W_X24_likeParts_20 at w
  refine jw_icmp_ge (tgt := 47) (pc' := 23) rfl rfl (fun c_1 => ?_) (fun c_1 => ?_)
  · replace w := w.1 c_1
    refine jw_iconst (pc' := 48) (x := (1 : Int32)) rfl rfl ?_
    exact jw_ireturn rfl rfl (rfl) w
  · replace w := w.2 c_1
    refine jw_aload_n (pc' := 24) rfl rfl ?_
    refine jw_iload_n (pc' := 25) rfl rfl ?_
    obtain ⟨g_2, w⟩ := w
    refine JW.inv (fun hI => JW.oks (fun ho => ?_))
    have hkd := und55.k hI (ho (vR 55 r0) (by simp)) g_2
    simp only [List.mem_cons, List.not_mem_nil, or_false] at hkd
    clear ho hI
    rcases hkd with e_6 | e_6 | e_6 | e_6 | e_6 | e_6 | e_6 | e_6 | e_6 | e_6
    · refine jw_cR (st := []) (sa := [vR 55 r0, vI x2]) okX24_part rfl rfl rfl rfl rfl rfl (jstp_up (sa := [vI x2]) (st := []) rfl (lw_g (jtb_mem (c := 10) (i := 230) rfl) rfl) um48 okX24_part g_2 (fun _ _ => by rw [e_6]; exact ⟨rfl, rfl⟩) rfl rfl) (w.1 e_6) (fun v_5 h_3 _ _ _ w => ?_)
      exact w_X24_likeParts_28 hK15 w
    · refine jw_gen (ls' := _) (st' := [vI x2, vR 21 r0]) (jgl_rf _ _) (And.intro (Or.inl rfl) (And.intro (Or.inr ⟨_, _, _, rfl, rfl, Or.inr (Or.inr (by rw [e_6]; rfl))⟩) (jgs_rf _ _))) ?_
      refine jw_cR (st := []) (sa := [vR 21 r0, vI x2]) okX26_part rfl rfl rfl rfl rfl rfl (jstp_up (sa := [vI x2]) (st := []) rfl (lw_g (jtb_mem (c := 10) (i := 230) rfl) rfl) um49 okX26_part g_2 (fun _ _ => by rw [e_6]; exact ⟨rfl, rfl⟩) rfl rfl) (w.2.1 e_6) (fun v_5 h_3 _ _ _ w => ?_)
      exact w_X24_likeParts_28 hK15 w
    · refine jw_gen (ls' := _) (st' := [vI x2, vR 22 r0]) (jgl_rf _ _) (And.intro (Or.inl rfl) (And.intro (Or.inr ⟨_, _, _, rfl, rfl, Or.inr (Or.inr (by rw [e_6]; rfl))⟩) (jgs_rf _ _))) ?_
      refine jw_cR (st := []) (sa := [vR 22 r0, vI x2]) okX26_part rfl rfl rfl rfl rfl rfl (jstp_up (sa := [vI x2]) (st := []) rfl (lw_g (jtb_mem (c := 10) (i := 230) rfl) rfl) um50 okX26_part g_2 (fun _ _ => by rw [e_6]; exact ⟨rfl, rfl⟩) rfl rfl) (w.2.2.1 e_6) (fun v_5 h_3 _ _ _ w => ?_)
      exact w_X24_likeParts_28 hK15 w
    · refine jw_gen (ls' := _) (st' := [vI x2, vR 23 r0]) (jgl_rf _ _) (And.intro (Or.inl rfl) (And.intro (Or.inr ⟨_, _, _, rfl, rfl, Or.inr (Or.inr (by rw [e_6]; rfl))⟩) (jgs_rf _ _))) ?_
      refine jw_cR (st := []) (sa := [vR 23 r0, vI x2]) okX26_part rfl rfl rfl rfl rfl rfl (jstp_up (sa := [vI x2]) (st := []) rfl (lw_g (jtb_mem (c := 10) (i := 230) rfl) rfl) um51 okX26_part g_2 (fun _ _ => by rw [e_6]; exact ⟨rfl, rfl⟩) rfl rfl) (w.2.2.2.1 e_6) (fun v_5 h_3 _ _ _ w => ?_)
      exact w_X24_likeParts_28 hK15 w
    · refine jw_cR (st := []) (sa := [vR 55 r0, vI x2]) okX24_part rfl rfl rfl rfl rfl rfl (jstp_up (sa := [vI x2]) (st := []) rfl (lw_g (jtb_mem (c := 10) (i := 230) rfl) rfl) um52 okX24_part g_2 (fun _ _ => by rw [e_6]; exact ⟨rfl, rfl⟩) rfl rfl) (w.2.2.2.2.1 e_6) (fun v_5 h_3 _ _ _ w => ?_)
      exact w_X24_likeParts_28 hK15 w
    · refine jw_cR (st := []) (sa := [vR 55 r0, vI x2]) okX24_part rfl rfl rfl rfl rfl rfl (jstp_up (sa := [vI x2]) (st := []) rfl (lw_g (jtb_mem (c := 10) (i := 230) rfl) rfl) um53 okX24_part g_2 (fun _ _ => by rw [e_6]; exact ⟨rfl, rfl⟩) rfl rfl) (w.2.2.2.2.2.1 e_6) (fun v_5 h_3 _ _ _ w => ?_)
      exact w_X24_likeParts_28 hK15 w
    · refine jw_gen (ls' := _) (st' := [vI x2, vR 26 r0]) (jgl_rf _ _) (And.intro (Or.inl rfl) (And.intro (Or.inr ⟨_, _, _, rfl, rfl, Or.inr (Or.inr (by rw [e_6]; rfl))⟩) (jgs_rf _ _))) ?_
      refine jw_cR (st := []) (sa := [vR 26 r0, vI x2]) okX32_part rfl rfl rfl rfl rfl rfl (jstp_up (sa := [vI x2]) (st := []) rfl (lw_g (jtb_mem (c := 10) (i := 230) rfl) rfl) um54 okX32_part g_2 (fun _ _ => by rw [e_6]; exact ⟨rfl, rfl⟩) rfl rfl) (w.2.2.2.2.2.2.1 e_6) (fun v_5 h_3 _ _ _ w => ?_)
      exact w_X24_likeParts_28 hK15 w
    · refine jw_gen (ls' := _) (st' := [vI x2, vR 27 r0]) (jgl_rf _ _) (And.intro (Or.inl rfl) (And.intro (Or.inr ⟨_, _, _, rfl, rfl, Or.inr (Or.inr (by rw [e_6]; rfl))⟩) (jgs_rf _ _))) ?_
      refine jw_cR (st := []) (sa := [vR 27 r0, vI x2]) okX33_part rfl rfl rfl rfl rfl rfl (jstp_up (sa := [vI x2]) (st := []) rfl (lw_g (jtb_mem (c := 10) (i := 230) rfl) rfl) um55 okX33_part g_2 (fun _ _ => by rw [e_6]; exact ⟨rfl, rfl⟩) rfl rfl) (w.2.2.2.2.2.2.2.1 e_6) (fun v_5 h_3 _ _ _ w => ?_)
      exact w_X24_likeParts_28 hK15 w
    · refine jw_gen (ls' := _) (st' := [vI x2, vR 28 r0]) (jgl_rf _ _) (And.intro (Or.inl rfl) (And.intro (Or.inr ⟨_, _, _, rfl, rfl, Or.inr (Or.inr (by rw [e_6]; rfl))⟩) (jgs_rf _ _))) ?_
      refine jw_cR (st := []) (sa := [vR 28 r0, vI x2]) okX34_part rfl rfl rfl rfl rfl rfl (jstp_up (sa := [vI x2]) (st := []) rfl (lw_g (jtb_mem (c := 10) (i := 230) rfl) rfl) um56 okX34_part g_2 (fun _ _ => by rw [e_6]; exact ⟨rfl, rfl⟩) rfl rfl) (w.2.2.2.2.2.2.2.2.1 e_6) (fun v_5 h_3 _ _ _ w => ?_)
      exact w_X24_likeParts_28 hK15 w
    · refine jw_gen (ls' := _) (st' := [vI x2, vR 29 r0]) (jgl_rf _ _) (And.intro (Or.inl rfl) (And.intro (Or.inr ⟨_, _, _, rfl, rfl, Or.inr (Or.inr (by rw [e_6]; rfl))⟩) (jgs_rf _ _))) ?_
      refine jw_cR (st := []) (sa := [vR 29 r0, vI x2]) okX26_part rfl rfl rfl rfl rfl rfl (jstp_up (sa := [vI x2]) (st := []) rfl (lw_g (jtb_mem (c := 10) (i := 230) rfl) rfl) um57 okX26_part g_2 (fun _ _ => by rw [e_6]; exact ⟨rfl, rfl⟩) rfl rfl) (w.2.2.2.2.2.2.2.2.2 e_6) (fun v_5 h_3 _ _ _ w => ?_)
      exact w_X24_likeParts_28 hK15 w
def W_X24_likeParts_15 (D : JD) (d : Nat) (Q : JO → JH → Prop) (K15 : Nat → Nat → Int32 → JH → Prop) (r0 : Nat) (r1 : Nat) (x2 : Int32) (h : JH) : Prop :=
  r0 ≠ 0 ∧ (v55_count D d r0 h (pI D h (fun v_4 h_2 => W_X24_likeParts_20 D d Q K15 r0 r1 x2 x2 v_4 h_2) (jth Q)))
theorem w_X24_likeParts_15 {D : JD} {d : Nat} {Q : JO → JH → Prop} {K15 : Nat → Nat → Int32 → JH → Prop} {r0 : Nat} {r1 : Nat} {x2 : Int32} {h : JH} (hK15 : ∀ (r0 : Nat) (r1 : Nat) (x2 : Int32) (h : JH), K15 r0 r1 x2 h → JW D (d + 1) mX24_likeParts 15 [some (vR 55 r0), some (vR 55 r1), some (vI x2)] [] h Q) (w : W_X24_likeParts_15 D d Q K15 r0 r1 x2 h) : JW D (d + 1) mX24_likeParts 15 [some (vR 55 r0), some (vR 55 r1), some (vI x2)] [] h Q := by
  unfold W_X24_likeParts_15 at w
  refine jw_iload_n (pc' := 16) rfl rfl ?_
  refine jw_aload_n (pc' := 17) rfl rfl ?_
  obtain ⟨g_1, w⟩ := w
  refine JW.inv (fun hI => JW.oks (fun ho => ?_))
  have hkd := und55.k hI (ho (vR 55 r0) (by simp)) g_1
  simp only [List.mem_cons, List.not_mem_nil, or_false] at hkd
  clear ho hI
  rcases hkd with e_5 | e_5 | e_5 | e_5 | e_5 | e_5 | e_5 | e_5 | e_5 | e_5
  · refine jw_cI (st := [vI x2]) (sa := [vR 55 r0]) okX24_count rfl rfl rfl rfl rfl rfl (jstp_up (sa := []) (st := [vI x2]) rfl (lw_g (jtb_mem (c := 10) (i := 208) rfl) rfl) um58 okX24_count g_1 (fun _ _ => by rw [e_5]; exact ⟨rfl, rfl⟩) rfl rfl) (w.1 e_5) (fun v_4 h_2 _ _ w => ?_)
    exact w_X24_likeParts_20 hK15 w
  · refine jw_gen (ls' := _) (st' := [vR 21 r0, vI x2]) (jgl_rf _ _) (And.intro (Or.inr ⟨_, _, _, rfl, rfl, Or.inr (Or.inr (by rw [e_5]; rfl))⟩) (jgs_rf _ _)) ?_
    refine jw_cI (st := [vI x2]) (sa := [vR 21 r0]) okX26_count rfl rfl rfl rfl rfl rfl (jstp_up (sa := []) (st := [vI x2]) rfl (lw_g (jtb_mem (c := 10) (i := 208) rfl) rfl) um59 okX26_count g_1 (fun _ _ => by rw [e_5]; exact ⟨rfl, rfl⟩) rfl rfl) (w.2.1 e_5) (fun v_4 h_2 _ _ w => ?_)
    exact w_X24_likeParts_20 hK15 w
  · refine jw_gen (ls' := _) (st' := [vR 22 r0, vI x2]) (jgl_rf _ _) (And.intro (Or.inr ⟨_, _, _, rfl, rfl, Or.inr (Or.inr (by rw [e_5]; rfl))⟩) (jgs_rf _ _)) ?_
    refine jw_cI (st := [vI x2]) (sa := [vR 22 r0]) okX26_count rfl rfl rfl rfl rfl rfl (jstp_up (sa := []) (st := [vI x2]) rfl (lw_g (jtb_mem (c := 10) (i := 208) rfl) rfl) um60 okX26_count g_1 (fun _ _ => by rw [e_5]; exact ⟨rfl, rfl⟩) rfl rfl) (w.2.2.1 e_5) (fun v_4 h_2 _ _ w => ?_)
    exact w_X24_likeParts_20 hK15 w
  · refine jw_gen (ls' := _) (st' := [vR 23 r0, vI x2]) (jgl_rf _ _) (And.intro (Or.inr ⟨_, _, _, rfl, rfl, Or.inr (Or.inr (by rw [e_5]; rfl))⟩) (jgs_rf _ _)) ?_
    refine jw_cI (st := [vI x2]) (sa := [vR 23 r0]) okX26_count rfl rfl rfl rfl rfl rfl (jstp_up (sa := []) (st := [vI x2]) rfl (lw_g (jtb_mem (c := 10) (i := 208) rfl) rfl) um61 okX26_count g_1 (fun _ _ => by rw [e_5]; exact ⟨rfl, rfl⟩) rfl rfl) (w.2.2.2.1 e_5) (fun v_4 h_2 _ _ w => ?_)
    exact w_X24_likeParts_20 hK15 w
  · refine jw_cI (st := [vI x2]) (sa := [vR 55 r0]) okX24_count rfl rfl rfl rfl rfl rfl (jstp_up (sa := []) (st := [vI x2]) rfl (lw_g (jtb_mem (c := 10) (i := 208) rfl) rfl) um62 okX24_count g_1 (fun _ _ => by rw [e_5]; exact ⟨rfl, rfl⟩) rfl rfl) (w.2.2.2.2.1 e_5) (fun v_4 h_2 _ _ w => ?_)
    exact w_X24_likeParts_20 hK15 w
  · refine jw_cI (st := [vI x2]) (sa := [vR 55 r0]) okX24_count rfl rfl rfl rfl rfl rfl (jstp_up (sa := []) (st := [vI x2]) rfl (lw_g (jtb_mem (c := 10) (i := 208) rfl) rfl) um63 okX24_count g_1 (fun _ _ => by rw [e_5]; exact ⟨rfl, rfl⟩) rfl rfl) (w.2.2.2.2.2.1 e_5) (fun v_4 h_2 _ _ w => ?_)
    exact w_X24_likeParts_20 hK15 w
  · refine jw_gen (ls' := _) (st' := [vR 26 r0, vI x2]) (jgl_rf _ _) (And.intro (Or.inr ⟨_, _, _, rfl, rfl, Or.inr (Or.inr (by rw [e_5]; rfl))⟩) (jgs_rf _ _)) ?_
    refine jw_cI (st := [vI x2]) (sa := [vR 26 r0]) okX32_count rfl rfl rfl rfl rfl rfl (jstp_up (sa := []) (st := [vI x2]) rfl (lw_g (jtb_mem (c := 10) (i := 208) rfl) rfl) um64 okX32_count g_1 (fun _ _ => by rw [e_5]; exact ⟨rfl, rfl⟩) rfl rfl) (w.2.2.2.2.2.2.1 e_5) (fun v_4 h_2 _ _ w => ?_)
    exact w_X24_likeParts_20 hK15 w
  · refine jw_gen (ls' := _) (st' := [vR 27 r0, vI x2]) (jgl_rf _ _) (And.intro (Or.inr ⟨_, _, _, rfl, rfl, Or.inr (Or.inr (by rw [e_5]; rfl))⟩) (jgs_rf _ _)) ?_
    refine jw_cI (st := [vI x2]) (sa := [vR 27 r0]) okX33_count rfl rfl rfl rfl rfl rfl (jstp_up (sa := []) (st := [vI x2]) rfl (lw_g (jtb_mem (c := 10) (i := 208) rfl) rfl) um65 okX33_count g_1 (fun _ _ => by rw [e_5]; exact ⟨rfl, rfl⟩) rfl rfl) (w.2.2.2.2.2.2.2.1 e_5) (fun v_4 h_2 _ _ w => ?_)
    exact w_X24_likeParts_20 hK15 w
  · refine jw_gen (ls' := _) (st' := [vR 28 r0, vI x2]) (jgl_rf _ _) (And.intro (Or.inr ⟨_, _, _, rfl, rfl, Or.inr (Or.inr (by rw [e_5]; rfl))⟩) (jgs_rf _ _)) ?_
    refine jw_cI (st := [vI x2]) (sa := [vR 28 r0]) okX34_count rfl rfl rfl rfl rfl rfl (jstp_up (sa := []) (st := [vI x2]) rfl (lw_g (jtb_mem (c := 10) (i := 208) rfl) rfl) um66 okX34_count g_1 (fun _ _ => by rw [e_5]; exact ⟨rfl, rfl⟩) rfl rfl) (w.2.2.2.2.2.2.2.2.1 e_5) (fun v_4 h_2 _ _ w => ?_)
    exact w_X24_likeParts_20 hK15 w
  · refine jw_gen (ls' := _) (st' := [vR 29 r0, vI x2]) (jgl_rf _ _) (And.intro (Or.inr ⟨_, _, _, rfl, rfl, Or.inr (Or.inr (by rw [e_5]; rfl))⟩) (jgs_rf _ _)) ?_
    refine jw_cI (st := [vI x2]) (sa := [vR 29 r0]) okX26_count rfl rfl rfl rfl rfl rfl (jstp_up (sa := []) (st := [vI x2]) rfl (lw_g (jtb_mem (c := 10) (i := 208) rfl) rfl) um67 okX26_count g_1 (fun _ _ => by rw [e_5]; exact ⟨rfl, rfl⟩) rfl rfl) (w.2.2.2.2.2.2.2.2.2 e_5) (fun v_4 h_2 _ _ w => ?_)
    exact w_X24_likeParts_20 hK15 w
def L_X24_likeParts_15 (D : JD) (d : Nat) (Q : JO → JH → Prop) : Nat → Nat → Nat → Int32 → JH → Prop
  | 0 => fun _ _ _ _ => False
  | n + 1 => fun r0 r1 x2 h => W_X24_likeParts_15 D d Q (L_X24_likeParts_15 D d Q n) r0 r1 x2 h
theorem l_X24_likeParts_15 {D : JD} {d : Nat} {Q : JO → JH → Prop} : ∀ (n : Nat) (r0 : Nat) (r1 : Nat) (x2 : Int32) (h : JH), L_X24_likeParts_15 D d Q n r0 r1 x2 h → JW D (d + 1) mX24_likeParts 15 [some (vR 55 r0), some (vR 55 r1), some (vI x2)] [] h Q := by
  intro n
  induction n with
  | zero => intro _ _ _ _ w; exact w.elim
  | succ n ih => intro _ _ _ h w; exact w_X24_likeParts_15 ih w
def W_X24_likeParts_8 (D : JD) (d : Nat) (Q : JO → JH → Prop) (r0 : Nat) (r1 : Nat) (s0 : Int32) (s1 : Int32) (h : JH) : Prop :=
  (s0 = s1 → ∃ n, L_X24_likeParts_15 D d Q n r0 r1 (0 : Int32) h) ∧ (¬ s0 = s1 → Q (.inl (some (vI (0 : Int32)))) h)
theorem w_X24_likeParts_8 {D : JD} {d : Nat} {Q : JO → JH → Prop} {r0 : Nat} {r1 : Nat} {s0 : Int32} {s1 : Int32} {h : JH} (w : W_X24_likeParts_8 D d Q r0 r1 s0 s1 h) : JW D (d + 1) mX24_likeParts 8 [some (vR 55 r0), some (vR 55 r1), none] [vI s1, vI s0] h Q := by
  unfold W_X24_likeParts_8 at w
  refine jw_icmp_eq (tgt := 13) (pc' := 11) rfl rfl (fun c_1 => ?_) (fun c_1 => ?_)
  · replace w := w.1 c_1
    refine jw_iconst (pc' := 14) (x := (0 : Int32)) rfl rfl ?_
    refine jw_istore_n (pc' := 15) (ls' := [some (vR 55 r0), some (vR 55 r1), some (vI (0 : Int32))]) rfl (by decide) rfl ?_
    obtain ⟨n, w⟩ := w
    exact l_X24_likeParts_15 n _ _ _ _ w
  · replace w := w.2 c_1
    refine jw_iconst (pc' := 12) (x := (0 : Int32)) rfl rfl ?_
    exact jw_ireturn rfl rfl (rfl) w
def W_X24_likeParts_4 (D : JD) (d : Nat) (Q : JO → JH → Prop) (r0 : Nat) (r1 : Nat) (s0 : Int32) (h : JH) : Prop :=
  r1 ≠ 0 ∧ (v55_count D d r1 h (pI D h (fun v_4 h_2 => W_X24_likeParts_8 D d Q r0 r1 s0 v_4 h_2) (jth Q)))
theorem w_X24_likeParts_4 {D : JD} {d : Nat} {Q : JO → JH → Prop} {r0 : Nat} {r1 : Nat} {s0 : Int32} {h : JH} (w : W_X24_likeParts_4 D d Q r0 r1 s0 h) : JW D (d + 1) mX24_likeParts 4 [some (vR 55 r0), some (vR 55 r1), none] [vI s0] h Q := by
  unfold W_X24_likeParts_4 at w
  refine jw_aload_n (pc' := 5) rfl rfl ?_
  obtain ⟨g_1, w⟩ := w
  refine JW.inv (fun hI => JW.oks (fun ho => ?_))
  have hkd := und55.k hI (ho (vR 55 r1) (by simp)) g_1
  simp only [List.mem_cons, List.not_mem_nil, or_false] at hkd
  clear ho hI
  rcases hkd with e_5 | e_5 | e_5 | e_5 | e_5 | e_5 | e_5 | e_5 | e_5 | e_5
  · refine jw_cI (st := [vI s0]) (sa := [vR 55 r1]) okX24_count rfl rfl rfl rfl rfl rfl (jstp_up (sa := []) (st := [vI s0]) rfl (lw_g (jtb_mem (c := 10) (i := 208) rfl) rfl) um58 okX24_count g_1 (fun _ _ => by rw [e_5]; exact ⟨rfl, rfl⟩) rfl rfl) (w.1 e_5) (fun v_4 h_2 _ _ w => ?_)
    exact w_X24_likeParts_8 w
  · refine jw_gen (ls' := _) (st' := [vR 21 r1, vI s0]) (jgl_rf _ _) (And.intro (Or.inr ⟨_, _, _, rfl, rfl, Or.inr (Or.inr (by rw [e_5]; rfl))⟩) (jgs_rf _ _)) ?_
    refine jw_cI (st := [vI s0]) (sa := [vR 21 r1]) okX26_count rfl rfl rfl rfl rfl rfl (jstp_up (sa := []) (st := [vI s0]) rfl (lw_g (jtb_mem (c := 10) (i := 208) rfl) rfl) um59 okX26_count g_1 (fun _ _ => by rw [e_5]; exact ⟨rfl, rfl⟩) rfl rfl) (w.2.1 e_5) (fun v_4 h_2 _ _ w => ?_)
    exact w_X24_likeParts_8 w
  · refine jw_gen (ls' := _) (st' := [vR 22 r1, vI s0]) (jgl_rf _ _) (And.intro (Or.inr ⟨_, _, _, rfl, rfl, Or.inr (Or.inr (by rw [e_5]; rfl))⟩) (jgs_rf _ _)) ?_
    refine jw_cI (st := [vI s0]) (sa := [vR 22 r1]) okX26_count rfl rfl rfl rfl rfl rfl (jstp_up (sa := []) (st := [vI s0]) rfl (lw_g (jtb_mem (c := 10) (i := 208) rfl) rfl) um60 okX26_count g_1 (fun _ _ => by rw [e_5]; exact ⟨rfl, rfl⟩) rfl rfl) (w.2.2.1 e_5) (fun v_4 h_2 _ _ w => ?_)
    exact w_X24_likeParts_8 w
  · refine jw_gen (ls' := _) (st' := [vR 23 r1, vI s0]) (jgl_rf _ _) (And.intro (Or.inr ⟨_, _, _, rfl, rfl, Or.inr (Or.inr (by rw [e_5]; rfl))⟩) (jgs_rf _ _)) ?_
    refine jw_cI (st := [vI s0]) (sa := [vR 23 r1]) okX26_count rfl rfl rfl rfl rfl rfl (jstp_up (sa := []) (st := [vI s0]) rfl (lw_g (jtb_mem (c := 10) (i := 208) rfl) rfl) um61 okX26_count g_1 (fun _ _ => by rw [e_5]; exact ⟨rfl, rfl⟩) rfl rfl) (w.2.2.2.1 e_5) (fun v_4 h_2 _ _ w => ?_)
    exact w_X24_likeParts_8 w
  · refine jw_cI (st := [vI s0]) (sa := [vR 55 r1]) okX24_count rfl rfl rfl rfl rfl rfl (jstp_up (sa := []) (st := [vI s0]) rfl (lw_g (jtb_mem (c := 10) (i := 208) rfl) rfl) um62 okX24_count g_1 (fun _ _ => by rw [e_5]; exact ⟨rfl, rfl⟩) rfl rfl) (w.2.2.2.2.1 e_5) (fun v_4 h_2 _ _ w => ?_)
    exact w_X24_likeParts_8 w
  · refine jw_cI (st := [vI s0]) (sa := [vR 55 r1]) okX24_count rfl rfl rfl rfl rfl rfl (jstp_up (sa := []) (st := [vI s0]) rfl (lw_g (jtb_mem (c := 10) (i := 208) rfl) rfl) um63 okX24_count g_1 (fun _ _ => by rw [e_5]; exact ⟨rfl, rfl⟩) rfl rfl) (w.2.2.2.2.2.1 e_5) (fun v_4 h_2 _ _ w => ?_)
    exact w_X24_likeParts_8 w
  · refine jw_gen (ls' := _) (st' := [vR 26 r1, vI s0]) (jgl_rf _ _) (And.intro (Or.inr ⟨_, _, _, rfl, rfl, Or.inr (Or.inr (by rw [e_5]; rfl))⟩) (jgs_rf _ _)) ?_
    refine jw_cI (st := [vI s0]) (sa := [vR 26 r1]) okX32_count rfl rfl rfl rfl rfl rfl (jstp_up (sa := []) (st := [vI s0]) rfl (lw_g (jtb_mem (c := 10) (i := 208) rfl) rfl) um64 okX32_count g_1 (fun _ _ => by rw [e_5]; exact ⟨rfl, rfl⟩) rfl rfl) (w.2.2.2.2.2.2.1 e_5) (fun v_4 h_2 _ _ w => ?_)
    exact w_X24_likeParts_8 w
  · refine jw_gen (ls' := _) (st' := [vR 27 r1, vI s0]) (jgl_rf _ _) (And.intro (Or.inr ⟨_, _, _, rfl, rfl, Or.inr (Or.inr (by rw [e_5]; rfl))⟩) (jgs_rf _ _)) ?_
    refine jw_cI (st := [vI s0]) (sa := [vR 27 r1]) okX33_count rfl rfl rfl rfl rfl rfl (jstp_up (sa := []) (st := [vI s0]) rfl (lw_g (jtb_mem (c := 10) (i := 208) rfl) rfl) um65 okX33_count g_1 (fun _ _ => by rw [e_5]; exact ⟨rfl, rfl⟩) rfl rfl) (w.2.2.2.2.2.2.2.1 e_5) (fun v_4 h_2 _ _ w => ?_)
    exact w_X24_likeParts_8 w
  · refine jw_gen (ls' := _) (st' := [vR 28 r1, vI s0]) (jgl_rf _ _) (And.intro (Or.inr ⟨_, _, _, rfl, rfl, Or.inr (Or.inr (by rw [e_5]; rfl))⟩) (jgs_rf _ _)) ?_
    refine jw_cI (st := [vI s0]) (sa := [vR 28 r1]) okX34_count rfl rfl rfl rfl rfl rfl (jstp_up (sa := []) (st := [vI s0]) rfl (lw_g (jtb_mem (c := 10) (i := 208) rfl) rfl) um66 okX34_count g_1 (fun _ _ => by rw [e_5]; exact ⟨rfl, rfl⟩) rfl rfl) (w.2.2.2.2.2.2.2.2.1 e_5) (fun v_4 h_2 _ _ w => ?_)
    exact w_X24_likeParts_8 w
  · refine jw_gen (ls' := _) (st' := [vR 29 r1, vI s0]) (jgl_rf _ _) (And.intro (Or.inr ⟨_, _, _, rfl, rfl, Or.inr (Or.inr (by rw [e_5]; rfl))⟩) (jgs_rf _ _)) ?_
    refine jw_cI (st := [vI s0]) (sa := [vR 29 r1]) okX26_count rfl rfl rfl rfl rfl rfl (jstp_up (sa := []) (st := [vI s0]) rfl (lw_g (jtb_mem (c := 10) (i := 208) rfl) rfl) um67 okX26_count g_1 (fun _ _ => by rw [e_5]; exact ⟨rfl, rfl⟩) rfl rfl) (w.2.2.2.2.2.2.2.2.2 e_5) (fun v_4 h_2 _ _ w => ?_)
    exact w_X24_likeParts_8 w
def W_X24_likeParts_0 (D : JD) (d : Nat) (Q : JO → JH → Prop) (r0 : Nat) (r1 : Nat) (h : JH) : Prop :=
  r0 ≠ 0 ∧ (v55_count D d r0 h (pI D h (fun v_4 h_2 => W_X24_likeParts_4 D d Q r0 r1 v_4 h_2) (jth Q)))
theorem w_X24_likeParts_0 {D : JD} {d : Nat} {Q : JO → JH → Prop} {r0 : Nat} {r1 : Nat} {h : JH} (w : W_X24_likeParts_0 D d Q r0 r1 h) : JW D (d + 1) mX24_likeParts 0 [some (vR 55 r0), some (vR 55 r1), none] [] h Q := by
  unfold W_X24_likeParts_0 at w
  refine jw_aload_n (pc' := 1) rfl rfl ?_
  obtain ⟨g_1, w⟩ := w
  refine JW.inv (fun hI => JW.oks (fun ho => ?_))
  have hkd := und55.k hI (ho (vR 55 r0) (by simp)) g_1
  simp only [List.mem_cons, List.not_mem_nil, or_false] at hkd
  clear ho hI
  rcases hkd with e_5 | e_5 | e_5 | e_5 | e_5 | e_5 | e_5 | e_5 | e_5 | e_5
  · refine jw_cI (st := []) (sa := [vR 55 r0]) okX24_count rfl rfl rfl rfl rfl rfl (jstp_up (sa := []) (st := []) rfl (lw_g (jtb_mem (c := 10) (i := 208) rfl) rfl) um58 okX24_count g_1 (fun _ _ => by rw [e_5]; exact ⟨rfl, rfl⟩) rfl rfl) (w.1 e_5) (fun v_4 h_2 _ _ w => ?_)
    exact w_X24_likeParts_4 w
  · refine jw_gen (ls' := _) (st' := [vR 21 r0]) (jgl_rf _ _) (And.intro (Or.inr ⟨_, _, _, rfl, rfl, Or.inr (Or.inr (by rw [e_5]; rfl))⟩) (jgs_rf _ _)) ?_
    refine jw_cI (st := []) (sa := [vR 21 r0]) okX26_count rfl rfl rfl rfl rfl rfl (jstp_up (sa := []) (st := []) rfl (lw_g (jtb_mem (c := 10) (i := 208) rfl) rfl) um59 okX26_count g_1 (fun _ _ => by rw [e_5]; exact ⟨rfl, rfl⟩) rfl rfl) (w.2.1 e_5) (fun v_4 h_2 _ _ w => ?_)
    exact w_X24_likeParts_4 w
  · refine jw_gen (ls' := _) (st' := [vR 22 r0]) (jgl_rf _ _) (And.intro (Or.inr ⟨_, _, _, rfl, rfl, Or.inr (Or.inr (by rw [e_5]; rfl))⟩) (jgs_rf _ _)) ?_
    refine jw_cI (st := []) (sa := [vR 22 r0]) okX26_count rfl rfl rfl rfl rfl rfl (jstp_up (sa := []) (st := []) rfl (lw_g (jtb_mem (c := 10) (i := 208) rfl) rfl) um60 okX26_count g_1 (fun _ _ => by rw [e_5]; exact ⟨rfl, rfl⟩) rfl rfl) (w.2.2.1 e_5) (fun v_4 h_2 _ _ w => ?_)
    exact w_X24_likeParts_4 w
  · refine jw_gen (ls' := _) (st' := [vR 23 r0]) (jgl_rf _ _) (And.intro (Or.inr ⟨_, _, _, rfl, rfl, Or.inr (Or.inr (by rw [e_5]; rfl))⟩) (jgs_rf _ _)) ?_
    refine jw_cI (st := []) (sa := [vR 23 r0]) okX26_count rfl rfl rfl rfl rfl rfl (jstp_up (sa := []) (st := []) rfl (lw_g (jtb_mem (c := 10) (i := 208) rfl) rfl) um61 okX26_count g_1 (fun _ _ => by rw [e_5]; exact ⟨rfl, rfl⟩) rfl rfl) (w.2.2.2.1 e_5) (fun v_4 h_2 _ _ w => ?_)
    exact w_X24_likeParts_4 w
  · refine jw_cI (st := []) (sa := [vR 55 r0]) okX24_count rfl rfl rfl rfl rfl rfl (jstp_up (sa := []) (st := []) rfl (lw_g (jtb_mem (c := 10) (i := 208) rfl) rfl) um62 okX24_count g_1 (fun _ _ => by rw [e_5]; exact ⟨rfl, rfl⟩) rfl rfl) (w.2.2.2.2.1 e_5) (fun v_4 h_2 _ _ w => ?_)
    exact w_X24_likeParts_4 w
  · refine jw_cI (st := []) (sa := [vR 55 r0]) okX24_count rfl rfl rfl rfl rfl rfl (jstp_up (sa := []) (st := []) rfl (lw_g (jtb_mem (c := 10) (i := 208) rfl) rfl) um63 okX24_count g_1 (fun _ _ => by rw [e_5]; exact ⟨rfl, rfl⟩) rfl rfl) (w.2.2.2.2.2.1 e_5) (fun v_4 h_2 _ _ w => ?_)
    exact w_X24_likeParts_4 w
  · refine jw_gen (ls' := _) (st' := [vR 26 r0]) (jgl_rf _ _) (And.intro (Or.inr ⟨_, _, _, rfl, rfl, Or.inr (Or.inr (by rw [e_5]; rfl))⟩) (jgs_rf _ _)) ?_
    refine jw_cI (st := []) (sa := [vR 26 r0]) okX32_count rfl rfl rfl rfl rfl rfl (jstp_up (sa := []) (st := []) rfl (lw_g (jtb_mem (c := 10) (i := 208) rfl) rfl) um64 okX32_count g_1 (fun _ _ => by rw [e_5]; exact ⟨rfl, rfl⟩) rfl rfl) (w.2.2.2.2.2.2.1 e_5) (fun v_4 h_2 _ _ w => ?_)
    exact w_X24_likeParts_4 w
  · refine jw_gen (ls' := _) (st' := [vR 27 r0]) (jgl_rf _ _) (And.intro (Or.inr ⟨_, _, _, rfl, rfl, Or.inr (Or.inr (by rw [e_5]; rfl))⟩) (jgs_rf _ _)) ?_
    refine jw_cI (st := []) (sa := [vR 27 r0]) okX33_count rfl rfl rfl rfl rfl rfl (jstp_up (sa := []) (st := []) rfl (lw_g (jtb_mem (c := 10) (i := 208) rfl) rfl) um65 okX33_count g_1 (fun _ _ => by rw [e_5]; exact ⟨rfl, rfl⟩) rfl rfl) (w.2.2.2.2.2.2.2.1 e_5) (fun v_4 h_2 _ _ w => ?_)
    exact w_X24_likeParts_4 w
  · refine jw_gen (ls' := _) (st' := [vR 28 r0]) (jgl_rf _ _) (And.intro (Or.inr ⟨_, _, _, rfl, rfl, Or.inr (Or.inr (by rw [e_5]; rfl))⟩) (jgs_rf _ _)) ?_
    refine jw_cI (st := []) (sa := [vR 28 r0]) okX34_count rfl rfl rfl rfl rfl rfl (jstp_up (sa := []) (st := []) rfl (lw_g (jtb_mem (c := 10) (i := 208) rfl) rfl) um66 okX34_count g_1 (fun _ _ => by rw [e_5]; exact ⟨rfl, rfl⟩) rfl rfl) (w.2.2.2.2.2.2.2.2.1 e_5) (fun v_4 h_2 _ _ w => ?_)
    exact w_X24_likeParts_4 w
  · refine jw_gen (ls' := _) (st' := [vR 29 r0]) (jgl_rf _ _) (And.intro (Or.inr ⟨_, _, _, rfl, rfl, Or.inr (Or.inr (by rw [e_5]; rfl))⟩) (jgs_rf _ _)) ?_
    refine jw_cI (st := []) (sa := [vR 29 r0]) okX26_count rfl rfl rfl rfl rfl rfl (jstp_up (sa := []) (st := []) rfl (lw_g (jtb_mem (c := 10) (i := 208) rfl) rfl) um67 okX26_count g_1 (fun _ _ => by rw [e_5]; exact ⟨rfl, rfl⟩) rfl rfl) (w.2.2.2.2.2.2.2.2.2 e_5) (fun v_4 h_2 _ _ w => ?_)
    exact w_X24_likeParts_4 w
def T_X24_likeParts (D : JD) (d : Nat) (Q : JO → JH → Prop) (r0 : Nat) (r1 : Nat) (h : JH) : Prop := W_X24_likeParts_0 D d Q r0 r1 h
theorem t_X24_likeParts {D : JD} {d : Nat} {Q : JO → JH → Prop} {r0 : Nat} {r1 : Nat} {h : JH} (w : T_X24_likeParts D d Q r0 r1 h) : cX24_likeParts D (d + 1) r0 r1 h Q := by
  unfold T_X24_likeParts at w
  unfold cX24_likeParts
  exact w_X24_likeParts_0 w
def W_X24_ungrouped_15 (D : JD) (d : Nat) (Q : JO → JH → Prop) (K2 : Nat → Nat → Int32 → JH → Prop) (r0 : Nat) (r1 : Nat) (x2 : Int32) (q0 : Nat) (h : JH) : Prop :=
  q0 ≠ 0 ∧ (cX24_grouped D d q0 r1 h (pV D h (fun h_2 => K2 r0 r1 (x2 + (1 : Int32)) h_2) (jth Q)))
theorem w_X24_ungrouped_15 {D : JD} {d : Nat} {Q : JO → JH → Prop} {K2 : Nat → Nat → Int32 → JH → Prop} {r0 : Nat} {r1 : Nat} {x2 : Int32} {q0 : Nat} {h : JH} (hK2 : ∀ (r0 : Nat) (r1 : Nat) (x2 : Int32) (h : JH), K2 r0 r1 x2 h → JW D (d + 1) mX24_ungrouped 2 [some (vR 55 r0), some (vR 6 r1), some (vI x2)] [] h Q) (w : W_X24_ungrouped_15 D d Q K2 r0 r1 x2 q0 h) : JW D (d + 1) mX24_ungrouped 15 [some (vR 55 r0), some (vR 6 r1), some (vI x2)] [vR 55 q0] h Q := by
  unfold W_X24_ungrouped_15 at w
  refine jw_aload_n (pc' := 16) rfl rfl ?_
  obtain ⟨g_1, w⟩ := w
  refine JW.inv (fun hI => JW.oks (fun ho => ?_))
  have hkd := und55.k hI (ho (vR 55 q0) (by simp)) g_1
  simp only [List.mem_cons, List.not_mem_nil, or_false] at hkd
  clear ho hI
  rcases hkd with e_5 | e_5 | e_5 | e_5 | e_5 | e_5 | e_5 | e_5 | e_5 | e_5
  · refine jw_cV (st := []) (sa := [vR 55 q0, vR 6 r1]) okX24_grouped rfl rfl rfl rfl rfl rfl (jstp_up (sa := [vR 6 r1]) (st := []) rfl (lw_g (jtb_mem (c := 11) (i := 124) rfl) rfl) um88 okX24_grouped g_1 (fun _ _ => by rw [e_5]; exact ⟨rfl, rfl⟩) rfl rfl) w (fun h_2 _ _ w => ?_)
    refine jw_iinc (pc' := 22) (y := x2 + (1 : Int32)) (ls' := [some (vR 55 r0), some (vR 6 r1), some (vI (x2 + (1 : Int32)))]) rfl (by decide) rfl rfl rfl ?_
    refine jw_goto (pc' := 2) rfl rfl ?_
    exact hK2 _ _ _ _ w
  · refine jw_cV (st := []) (sa := [vR 55 q0, vR 6 r1]) okX24_grouped rfl rfl rfl rfl rfl rfl (jstp_up (sa := [vR 6 r1]) (st := []) rfl (lw_g (jtb_mem (c := 11) (i := 124) rfl) rfl) um89 okX24_grouped g_1 (fun _ _ => by rw [e_5]; exact ⟨rfl, rfl⟩) rfl rfl) w (fun h_2 _ _ w => ?_)
    refine jw_iinc (pc' := 22) (y := x2 + (1 : Int32)) (ls' := [some (vR 55 r0), some (vR 6 r1), some (vI (x2 + (1 : Int32)))]) rfl (by decide) rfl rfl rfl ?_
    refine jw_goto (pc' := 2) rfl rfl ?_
    exact hK2 _ _ _ _ w
  · refine jw_cV (st := []) (sa := [vR 55 q0, vR 6 r1]) okX24_grouped rfl rfl rfl rfl rfl rfl (jstp_up (sa := [vR 6 r1]) (st := []) rfl (lw_g (jtb_mem (c := 11) (i := 124) rfl) rfl) um90 okX24_grouped g_1 (fun _ _ => by rw [e_5]; exact ⟨rfl, rfl⟩) rfl rfl) w (fun h_2 _ _ w => ?_)
    refine jw_iinc (pc' := 22) (y := x2 + (1 : Int32)) (ls' := [some (vR 55 r0), some (vR 6 r1), some (vI (x2 + (1 : Int32)))]) rfl (by decide) rfl rfl rfl ?_
    refine jw_goto (pc' := 2) rfl rfl ?_
    exact hK2 _ _ _ _ w
  · refine jw_cV (st := []) (sa := [vR 55 q0, vR 6 r1]) okX24_grouped rfl rfl rfl rfl rfl rfl (jstp_up (sa := [vR 6 r1]) (st := []) rfl (lw_g (jtb_mem (c := 11) (i := 124) rfl) rfl) um91 okX24_grouped g_1 (fun _ _ => by rw [e_5]; exact ⟨rfl, rfl⟩) rfl rfl) w (fun h_2 _ _ w => ?_)
    refine jw_iinc (pc' := 22) (y := x2 + (1 : Int32)) (ls' := [some (vR 55 r0), some (vR 6 r1), some (vI (x2 + (1 : Int32)))]) rfl (by decide) rfl rfl rfl ?_
    refine jw_goto (pc' := 2) rfl rfl ?_
    exact hK2 _ _ _ _ w
  · refine jw_cV (st := []) (sa := [vR 55 q0, vR 6 r1]) okX24_grouped rfl rfl rfl rfl rfl rfl (jstp_up (sa := [vR 6 r1]) (st := []) rfl (lw_g (jtb_mem (c := 11) (i := 124) rfl) rfl) um92 okX24_grouped g_1 (fun _ _ => by rw [e_5]; exact ⟨rfl, rfl⟩) rfl rfl) w (fun h_2 _ _ w => ?_)
    refine jw_iinc (pc' := 22) (y := x2 + (1 : Int32)) (ls' := [some (vR 55 r0), some (vR 6 r1), some (vI (x2 + (1 : Int32)))]) rfl (by decide) rfl rfl rfl ?_
    refine jw_goto (pc' := 2) rfl rfl ?_
    exact hK2 _ _ _ _ w
  · refine jw_cV (st := []) (sa := [vR 55 q0, vR 6 r1]) okX24_grouped rfl rfl rfl rfl rfl rfl (jstp_up (sa := [vR 6 r1]) (st := []) rfl (lw_g (jtb_mem (c := 11) (i := 124) rfl) rfl) um93 okX24_grouped g_1 (fun _ _ => by rw [e_5]; exact ⟨rfl, rfl⟩) rfl rfl) w (fun h_2 _ _ w => ?_)
    refine jw_iinc (pc' := 22) (y := x2 + (1 : Int32)) (ls' := [some (vR 55 r0), some (vR 6 r1), some (vI (x2 + (1 : Int32)))]) rfl (by decide) rfl rfl rfl ?_
    refine jw_goto (pc' := 2) rfl rfl ?_
    exact hK2 _ _ _ _ w
  · refine jw_cV (st := []) (sa := [vR 55 q0, vR 6 r1]) okX24_grouped rfl rfl rfl rfl rfl rfl (jstp_up (sa := [vR 6 r1]) (st := []) rfl (lw_g (jtb_mem (c := 11) (i := 124) rfl) rfl) um94 okX24_grouped g_1 (fun _ _ => by rw [e_5]; exact ⟨rfl, rfl⟩) rfl rfl) w (fun h_2 _ _ w => ?_)
    refine jw_iinc (pc' := 22) (y := x2 + (1 : Int32)) (ls' := [some (vR 55 r0), some (vR 6 r1), some (vI (x2 + (1 : Int32)))]) rfl (by decide) rfl rfl rfl ?_
    refine jw_goto (pc' := 2) rfl rfl ?_
    exact hK2 _ _ _ _ w
  · refine jw_cV (st := []) (sa := [vR 55 q0, vR 6 r1]) okX24_grouped rfl rfl rfl rfl rfl rfl (jstp_up (sa := [vR 6 r1]) (st := []) rfl (lw_g (jtb_mem (c := 11) (i := 124) rfl) rfl) um95 okX24_grouped g_1 (fun _ _ => by rw [e_5]; exact ⟨rfl, rfl⟩) rfl rfl) w (fun h_2 _ _ w => ?_)
    refine jw_iinc (pc' := 22) (y := x2 + (1 : Int32)) (ls' := [some (vR 55 r0), some (vR 6 r1), some (vI (x2 + (1 : Int32)))]) rfl (by decide) rfl rfl rfl ?_
    refine jw_goto (pc' := 2) rfl rfl ?_
    exact hK2 _ _ _ _ w
  · refine jw_cV (st := []) (sa := [vR 55 q0, vR 6 r1]) okX24_grouped rfl rfl rfl rfl rfl rfl (jstp_up (sa := [vR 6 r1]) (st := []) rfl (lw_g (jtb_mem (c := 11) (i := 124) rfl) rfl) um96 okX24_grouped g_1 (fun _ _ => by rw [e_5]; exact ⟨rfl, rfl⟩) rfl rfl) w (fun h_2 _ _ w => ?_)
    refine jw_iinc (pc' := 22) (y := x2 + (1 : Int32)) (ls' := [some (vR 55 r0), some (vR 6 r1), some (vI (x2 + (1 : Int32)))]) rfl (by decide) rfl rfl rfl ?_
    refine jw_goto (pc' := 2) rfl rfl ?_
    exact hK2 _ _ _ _ w
  · refine jw_cV (st := []) (sa := [vR 55 q0, vR 6 r1]) okX24_grouped rfl rfl rfl rfl rfl rfl (jstp_up (sa := [vR 6 r1]) (st := []) rfl (lw_g (jtb_mem (c := 11) (i := 124) rfl) rfl) um97 okX24_grouped g_1 (fun _ _ => by rw [e_5]; exact ⟨rfl, rfl⟩) rfl rfl) w (fun h_2 _ _ w => ?_)
    refine jw_iinc (pc' := 22) (y := x2 + (1 : Int32)) (ls' := [some (vR 55 r0), some (vR 6 r1), some (vI (x2 + (1 : Int32)))]) rfl (by decide) rfl rfl rfl ?_
    refine jw_goto (pc' := 2) rfl rfl ?_
    exact hK2 _ _ _ _ w
def W_X24_ungrouped_7 (D : JD) (d : Nat) (Q : JO → JH → Prop) (K2 : Nat → Nat → Int32 → JH → Prop) (r0 : Nat) (r1 : Nat) (x2 : Int32) (s0 : Int32) (s1 : Int32) (h : JH) : Prop :=
  (s1 ≤ s0 → Q (.inl none) h) ∧ (¬ s1 ≤ s0 → r0 ≠ 0 ∧ (v55_part D d r0 x2 h (pR D h 55 (fun v_5 h_3 => W_X24_ungrouped_15 D d Q K2 r0 r1 x2 v_5 h_3) (jth Q))))
theorem w_X24_ungrouped_7 {D : JD} {d : Nat} {Q : JO → JH → Prop} {K2 : Nat → Nat → Int32 → JH → Prop} {r0 : Nat} {r1 : Nat} {x2 : Int32} {s0 : Int32} {s1 : Int32} {h : JH} (hK2 : ∀ (r0 : Nat) (r1 : Nat) (x2 : Int32) (h : JH), K2 r0 r1 x2 h → JW D (d + 1) mX24_ungrouped 2 [some (vR 55 r0), some (vR 6 r1), some (vI x2)] [] h Q) (w : W_X24_ungrouped_7 D d Q K2 r0 r1 x2 s0 s1 h) : JW D (d + 1) mX24_ungrouped 7 [some (vR 55 r0), some (vR 6 r1), some (vI x2)] [vI s1, vI s0] h Q := by
  unfold W_X24_ungrouped_7 at w
  refine jw_icmp_ge (tgt := 25) (pc' := 10) rfl rfl (fun c_1 => ?_) (fun c_1 => ?_)
  · replace w := w.1 c_1
    exact jw_return rfl rfl w
  · replace w := w.2 c_1
    refine jw_aload_n (pc' := 11) rfl rfl ?_
    refine jw_iload_n (pc' := 12) rfl rfl ?_
    obtain ⟨g_2, w⟩ := w
    refine JW.inv (fun hI => JW.oks (fun ho => ?_))
    have hkd := und55.k hI (ho (vR 55 r0) (by simp)) g_2
    simp only [List.mem_cons, List.not_mem_nil, or_false] at hkd
    clear ho hI
    rcases hkd with e_6 | e_6 | e_6 | e_6 | e_6 | e_6 | e_6 | e_6 | e_6 | e_6
    · refine jw_cR (st := []) (sa := [vR 55 r0, vI x2]) okX24_part rfl rfl rfl rfl rfl rfl (jstp_up (sa := [vI x2]) (st := []) rfl (lw_g (jtb_mem (c := 10) (i := 230) rfl) rfl) um48 okX24_part g_2 (fun _ _ => by rw [e_6]; exact ⟨rfl, rfl⟩) rfl rfl) (w.1 e_6) (fun v_5 h_3 _ _ _ w => ?_)
      exact w_X24_ungrouped_15 hK2 w
    · refine jw_gen (ls' := _) (st' := [vI x2, vR 21 r0]) (jgl_rf _ _) (And.intro (Or.inl rfl) (And.intro (Or.inr ⟨_, _, _, rfl, rfl, Or.inr (Or.inr (by rw [e_6]; rfl))⟩) (jgs_rf _ _))) ?_
      refine jw_cR (st := []) (sa := [vR 21 r0, vI x2]) okX26_part rfl rfl rfl rfl rfl rfl (jstp_up (sa := [vI x2]) (st := []) rfl (lw_g (jtb_mem (c := 10) (i := 230) rfl) rfl) um49 okX26_part g_2 (fun _ _ => by rw [e_6]; exact ⟨rfl, rfl⟩) rfl rfl) (w.2.1 e_6) (fun v_5 h_3 _ _ _ w => ?_)
      exact w_X24_ungrouped_15 hK2 w
    · refine jw_gen (ls' := _) (st' := [vI x2, vR 22 r0]) (jgl_rf _ _) (And.intro (Or.inl rfl) (And.intro (Or.inr ⟨_, _, _, rfl, rfl, Or.inr (Or.inr (by rw [e_6]; rfl))⟩) (jgs_rf _ _))) ?_
      refine jw_cR (st := []) (sa := [vR 22 r0, vI x2]) okX26_part rfl rfl rfl rfl rfl rfl (jstp_up (sa := [vI x2]) (st := []) rfl (lw_g (jtb_mem (c := 10) (i := 230) rfl) rfl) um50 okX26_part g_2 (fun _ _ => by rw [e_6]; exact ⟨rfl, rfl⟩) rfl rfl) (w.2.2.1 e_6) (fun v_5 h_3 _ _ _ w => ?_)
      exact w_X24_ungrouped_15 hK2 w
    · refine jw_gen (ls' := _) (st' := [vI x2, vR 23 r0]) (jgl_rf _ _) (And.intro (Or.inl rfl) (And.intro (Or.inr ⟨_, _, _, rfl, rfl, Or.inr (Or.inr (by rw [e_6]; rfl))⟩) (jgs_rf _ _))) ?_
      refine jw_cR (st := []) (sa := [vR 23 r0, vI x2]) okX26_part rfl rfl rfl rfl rfl rfl (jstp_up (sa := [vI x2]) (st := []) rfl (lw_g (jtb_mem (c := 10) (i := 230) rfl) rfl) um51 okX26_part g_2 (fun _ _ => by rw [e_6]; exact ⟨rfl, rfl⟩) rfl rfl) (w.2.2.2.1 e_6) (fun v_5 h_3 _ _ _ w => ?_)
      exact w_X24_ungrouped_15 hK2 w
    · refine jw_cR (st := []) (sa := [vR 55 r0, vI x2]) okX24_part rfl rfl rfl rfl rfl rfl (jstp_up (sa := [vI x2]) (st := []) rfl (lw_g (jtb_mem (c := 10) (i := 230) rfl) rfl) um52 okX24_part g_2 (fun _ _ => by rw [e_6]; exact ⟨rfl, rfl⟩) rfl rfl) (w.2.2.2.2.1 e_6) (fun v_5 h_3 _ _ _ w => ?_)
      exact w_X24_ungrouped_15 hK2 w
    · refine jw_cR (st := []) (sa := [vR 55 r0, vI x2]) okX24_part rfl rfl rfl rfl rfl rfl (jstp_up (sa := [vI x2]) (st := []) rfl (lw_g (jtb_mem (c := 10) (i := 230) rfl) rfl) um53 okX24_part g_2 (fun _ _ => by rw [e_6]; exact ⟨rfl, rfl⟩) rfl rfl) (w.2.2.2.2.2.1 e_6) (fun v_5 h_3 _ _ _ w => ?_)
      exact w_X24_ungrouped_15 hK2 w
    · refine jw_gen (ls' := _) (st' := [vI x2, vR 26 r0]) (jgl_rf _ _) (And.intro (Or.inl rfl) (And.intro (Or.inr ⟨_, _, _, rfl, rfl, Or.inr (Or.inr (by rw [e_6]; rfl))⟩) (jgs_rf _ _))) ?_
      refine jw_cR (st := []) (sa := [vR 26 r0, vI x2]) okX32_part rfl rfl rfl rfl rfl rfl (jstp_up (sa := [vI x2]) (st := []) rfl (lw_g (jtb_mem (c := 10) (i := 230) rfl) rfl) um54 okX32_part g_2 (fun _ _ => by rw [e_6]; exact ⟨rfl, rfl⟩) rfl rfl) (w.2.2.2.2.2.2.1 e_6) (fun v_5 h_3 _ _ _ w => ?_)
      exact w_X24_ungrouped_15 hK2 w
    · refine jw_gen (ls' := _) (st' := [vI x2, vR 27 r0]) (jgl_rf _ _) (And.intro (Or.inl rfl) (And.intro (Or.inr ⟨_, _, _, rfl, rfl, Or.inr (Or.inr (by rw [e_6]; rfl))⟩) (jgs_rf _ _))) ?_
      refine jw_cR (st := []) (sa := [vR 27 r0, vI x2]) okX33_part rfl rfl rfl rfl rfl rfl (jstp_up (sa := [vI x2]) (st := []) rfl (lw_g (jtb_mem (c := 10) (i := 230) rfl) rfl) um55 okX33_part g_2 (fun _ _ => by rw [e_6]; exact ⟨rfl, rfl⟩) rfl rfl) (w.2.2.2.2.2.2.2.1 e_6) (fun v_5 h_3 _ _ _ w => ?_)
      exact w_X24_ungrouped_15 hK2 w
    · refine jw_gen (ls' := _) (st' := [vI x2, vR 28 r0]) (jgl_rf _ _) (And.intro (Or.inl rfl) (And.intro (Or.inr ⟨_, _, _, rfl, rfl, Or.inr (Or.inr (by rw [e_6]; rfl))⟩) (jgs_rf _ _))) ?_
      refine jw_cR (st := []) (sa := [vR 28 r0, vI x2]) okX34_part rfl rfl rfl rfl rfl rfl (jstp_up (sa := [vI x2]) (st := []) rfl (lw_g (jtb_mem (c := 10) (i := 230) rfl) rfl) um56 okX34_part g_2 (fun _ _ => by rw [e_6]; exact ⟨rfl, rfl⟩) rfl rfl) (w.2.2.2.2.2.2.2.2.1 e_6) (fun v_5 h_3 _ _ _ w => ?_)
      exact w_X24_ungrouped_15 hK2 w
    · refine jw_gen (ls' := _) (st' := [vI x2, vR 29 r0]) (jgl_rf _ _) (And.intro (Or.inl rfl) (And.intro (Or.inr ⟨_, _, _, rfl, rfl, Or.inr (Or.inr (by rw [e_6]; rfl))⟩) (jgs_rf _ _))) ?_
      refine jw_cR (st := []) (sa := [vR 29 r0, vI x2]) okX26_part rfl rfl rfl rfl rfl rfl (jstp_up (sa := [vI x2]) (st := []) rfl (lw_g (jtb_mem (c := 10) (i := 230) rfl) rfl) um57 okX26_part g_2 (fun _ _ => by rw [e_6]; exact ⟨rfl, rfl⟩) rfl rfl) (w.2.2.2.2.2.2.2.2.2 e_6) (fun v_5 h_3 _ _ _ w => ?_)
      exact w_X24_ungrouped_15 hK2 w
def W_X24_ungrouped_2 (D : JD) (d : Nat) (Q : JO → JH → Prop) (K2 : Nat → Nat → Int32 → JH → Prop) (r0 : Nat) (r1 : Nat) (x2 : Int32) (h : JH) : Prop :=
  r0 ≠ 0 ∧ (v55_count D d r0 h (pI D h (fun v_4 h_2 => W_X24_ungrouped_7 D d Q K2 r0 r1 x2 x2 v_4 h_2) (jth Q)))
theorem w_X24_ungrouped_2 {D : JD} {d : Nat} {Q : JO → JH → Prop} {K2 : Nat → Nat → Int32 → JH → Prop} {r0 : Nat} {r1 : Nat} {x2 : Int32} {h : JH} (hK2 : ∀ (r0 : Nat) (r1 : Nat) (x2 : Int32) (h : JH), K2 r0 r1 x2 h → JW D (d + 1) mX24_ungrouped 2 [some (vR 55 r0), some (vR 6 r1), some (vI x2)] [] h Q) (w : W_X24_ungrouped_2 D d Q K2 r0 r1 x2 h) : JW D (d + 1) mX24_ungrouped 2 [some (vR 55 r0), some (vR 6 r1), some (vI x2)] [] h Q := by
  unfold W_X24_ungrouped_2 at w
  refine jw_iload_n (pc' := 3) rfl rfl ?_
  refine jw_aload_n (pc' := 4) rfl rfl ?_
  obtain ⟨g_1, w⟩ := w
  refine JW.inv (fun hI => JW.oks (fun ho => ?_))
  have hkd := und55.k hI (ho (vR 55 r0) (by simp)) g_1
  simp only [List.mem_cons, List.not_mem_nil, or_false] at hkd
  clear ho hI
  rcases hkd with e_5 | e_5 | e_5 | e_5 | e_5 | e_5 | e_5 | e_5 | e_5 | e_5
  · refine jw_cI (st := [vI x2]) (sa := [vR 55 r0]) okX24_count rfl rfl rfl rfl rfl rfl (jstp_up (sa := []) (st := [vI x2]) rfl (lw_g (jtb_mem (c := 10) (i := 208) rfl) rfl) um58 okX24_count g_1 (fun _ _ => by rw [e_5]; exact ⟨rfl, rfl⟩) rfl rfl) (w.1 e_5) (fun v_4 h_2 _ _ w => ?_)
    exact w_X24_ungrouped_7 hK2 w
  · refine jw_gen (ls' := _) (st' := [vR 21 r0, vI x2]) (jgl_rf _ _) (And.intro (Or.inr ⟨_, _, _, rfl, rfl, Or.inr (Or.inr (by rw [e_5]; rfl))⟩) (jgs_rf _ _)) ?_
    refine jw_cI (st := [vI x2]) (sa := [vR 21 r0]) okX26_count rfl rfl rfl rfl rfl rfl (jstp_up (sa := []) (st := [vI x2]) rfl (lw_g (jtb_mem (c := 10) (i := 208) rfl) rfl) um59 okX26_count g_1 (fun _ _ => by rw [e_5]; exact ⟨rfl, rfl⟩) rfl rfl) (w.2.1 e_5) (fun v_4 h_2 _ _ w => ?_)
    exact w_X24_ungrouped_7 hK2 w
  · refine jw_gen (ls' := _) (st' := [vR 22 r0, vI x2]) (jgl_rf _ _) (And.intro (Or.inr ⟨_, _, _, rfl, rfl, Or.inr (Or.inr (by rw [e_5]; rfl))⟩) (jgs_rf _ _)) ?_
    refine jw_cI (st := [vI x2]) (sa := [vR 22 r0]) okX26_count rfl rfl rfl rfl rfl rfl (jstp_up (sa := []) (st := [vI x2]) rfl (lw_g (jtb_mem (c := 10) (i := 208) rfl) rfl) um60 okX26_count g_1 (fun _ _ => by rw [e_5]; exact ⟨rfl, rfl⟩) rfl rfl) (w.2.2.1 e_5) (fun v_4 h_2 _ _ w => ?_)
    exact w_X24_ungrouped_7 hK2 w
  · refine jw_gen (ls' := _) (st' := [vR 23 r0, vI x2]) (jgl_rf _ _) (And.intro (Or.inr ⟨_, _, _, rfl, rfl, Or.inr (Or.inr (by rw [e_5]; rfl))⟩) (jgs_rf _ _)) ?_
    refine jw_cI (st := [vI x2]) (sa := [vR 23 r0]) okX26_count rfl rfl rfl rfl rfl rfl (jstp_up (sa := []) (st := [vI x2]) rfl (lw_g (jtb_mem (c := 10) (i := 208) rfl) rfl) um61 okX26_count g_1 (fun _ _ => by rw [e_5]; exact ⟨rfl, rfl⟩) rfl rfl) (w.2.2.2.1 e_5) (fun v_4 h_2 _ _ w => ?_)
    exact w_X24_ungrouped_7 hK2 w
  · refine jw_cI (st := [vI x2]) (sa := [vR 55 r0]) okX24_count rfl rfl rfl rfl rfl rfl (jstp_up (sa := []) (st := [vI x2]) rfl (lw_g (jtb_mem (c := 10) (i := 208) rfl) rfl) um62 okX24_count g_1 (fun _ _ => by rw [e_5]; exact ⟨rfl, rfl⟩) rfl rfl) (w.2.2.2.2.1 e_5) (fun v_4 h_2 _ _ w => ?_)
    exact w_X24_ungrouped_7 hK2 w
  · refine jw_cI (st := [vI x2]) (sa := [vR 55 r0]) okX24_count rfl rfl rfl rfl rfl rfl (jstp_up (sa := []) (st := [vI x2]) rfl (lw_g (jtb_mem (c := 10) (i := 208) rfl) rfl) um63 okX24_count g_1 (fun _ _ => by rw [e_5]; exact ⟨rfl, rfl⟩) rfl rfl) (w.2.2.2.2.2.1 e_5) (fun v_4 h_2 _ _ w => ?_)
    exact w_X24_ungrouped_7 hK2 w
  · refine jw_gen (ls' := _) (st' := [vR 26 r0, vI x2]) (jgl_rf _ _) (And.intro (Or.inr ⟨_, _, _, rfl, rfl, Or.inr (Or.inr (by rw [e_5]; rfl))⟩) (jgs_rf _ _)) ?_
    refine jw_cI (st := [vI x2]) (sa := [vR 26 r0]) okX32_count rfl rfl rfl rfl rfl rfl (jstp_up (sa := []) (st := [vI x2]) rfl (lw_g (jtb_mem (c := 10) (i := 208) rfl) rfl) um64 okX32_count g_1 (fun _ _ => by rw [e_5]; exact ⟨rfl, rfl⟩) rfl rfl) (w.2.2.2.2.2.2.1 e_5) (fun v_4 h_2 _ _ w => ?_)
    exact w_X24_ungrouped_7 hK2 w
  · refine jw_gen (ls' := _) (st' := [vR 27 r0, vI x2]) (jgl_rf _ _) (And.intro (Or.inr ⟨_, _, _, rfl, rfl, Or.inr (Or.inr (by rw [e_5]; rfl))⟩) (jgs_rf _ _)) ?_
    refine jw_cI (st := [vI x2]) (sa := [vR 27 r0]) okX33_count rfl rfl rfl rfl rfl rfl (jstp_up (sa := []) (st := [vI x2]) rfl (lw_g (jtb_mem (c := 10) (i := 208) rfl) rfl) um65 okX33_count g_1 (fun _ _ => by rw [e_5]; exact ⟨rfl, rfl⟩) rfl rfl) (w.2.2.2.2.2.2.2.1 e_5) (fun v_4 h_2 _ _ w => ?_)
    exact w_X24_ungrouped_7 hK2 w
  · refine jw_gen (ls' := _) (st' := [vR 28 r0, vI x2]) (jgl_rf _ _) (And.intro (Or.inr ⟨_, _, _, rfl, rfl, Or.inr (Or.inr (by rw [e_5]; rfl))⟩) (jgs_rf _ _)) ?_
    refine jw_cI (st := [vI x2]) (sa := [vR 28 r0]) okX34_count rfl rfl rfl rfl rfl rfl (jstp_up (sa := []) (st := [vI x2]) rfl (lw_g (jtb_mem (c := 10) (i := 208) rfl) rfl) um66 okX34_count g_1 (fun _ _ => by rw [e_5]; exact ⟨rfl, rfl⟩) rfl rfl) (w.2.2.2.2.2.2.2.2.1 e_5) (fun v_4 h_2 _ _ w => ?_)
    exact w_X24_ungrouped_7 hK2 w
  · refine jw_gen (ls' := _) (st' := [vR 29 r0, vI x2]) (jgl_rf _ _) (And.intro (Or.inr ⟨_, _, _, rfl, rfl, Or.inr (Or.inr (by rw [e_5]; rfl))⟩) (jgs_rf _ _)) ?_
    refine jw_cI (st := [vI x2]) (sa := [vR 29 r0]) okX26_count rfl rfl rfl rfl rfl rfl (jstp_up (sa := []) (st := [vI x2]) rfl (lw_g (jtb_mem (c := 10) (i := 208) rfl) rfl) um67 okX26_count g_1 (fun _ _ => by rw [e_5]; exact ⟨rfl, rfl⟩) rfl rfl) (w.2.2.2.2.2.2.2.2.2 e_5) (fun v_4 h_2 _ _ w => ?_)
    exact w_X24_ungrouped_7 hK2 w
def L_X24_ungrouped_2 (D : JD) (d : Nat) (Q : JO → JH → Prop) : Nat → Nat → Nat → Int32 → JH → Prop
  | 0 => fun _ _ _ _ => False
  | n + 1 => fun r0 r1 x2 h => W_X24_ungrouped_2 D d Q (L_X24_ungrouped_2 D d Q n) r0 r1 x2 h
theorem l_X24_ungrouped_2 {D : JD} {d : Nat} {Q : JO → JH → Prop} : ∀ (n : Nat) (r0 : Nat) (r1 : Nat) (x2 : Int32) (h : JH), L_X24_ungrouped_2 D d Q n r0 r1 x2 h → JW D (d + 1) mX24_ungrouped 2 [some (vR 55 r0), some (vR 6 r1), some (vI x2)] [] h Q := by
  intro n
  induction n with
  | zero => intro _ _ _ _ w; exact w.elim
  | succ n ih => intro _ _ _ h w; exact w_X24_ungrouped_2 ih w
def W_X24_ungrouped_0 (D : JD) (d : Nat) (Q : JO → JH → Prop) (r0 : Nat) (r1 : Nat) (h : JH) : Prop :=
  ∃ n, L_X24_ungrouped_2 D d Q n r0 r1 (0 : Int32) h
theorem w_X24_ungrouped_0 {D : JD} {d : Nat} {Q : JO → JH → Prop} {r0 : Nat} {r1 : Nat} {h : JH} (w : W_X24_ungrouped_0 D d Q r0 r1 h) : JW D (d + 1) mX24_ungrouped 0 [some (vR 55 r0), some (vR 6 r1), none] [] h Q := by
  unfold W_X24_ungrouped_0 at w
  refine jw_iconst (pc' := 1) (x := (0 : Int32)) rfl rfl ?_
  refine jw_istore_n (pc' := 2) (ls' := [some (vR 55 r0), some (vR 6 r1), some (vI (0 : Int32))]) rfl (by decide) rfl ?_
  obtain ⟨n, w⟩ := w
  exact l_X24_ungrouped_2 n _ _ _ _ w
def T_X24_ungrouped (D : JD) (d : Nat) (Q : JO → JH → Prop) (r0 : Nat) (r1 : Nat) (h : JH) : Prop := W_X24_ungrouped_0 D d Q r0 r1 h
theorem t_X24_ungrouped {D : JD} {d : Nat} {Q : JO → JH → Prop} {r0 : Nat} {r1 : Nat} {h : JH} (w : T_X24_ungrouped D d Q r0 r1 h) : cX24_ungrouped D (d + 1) r0 r1 h Q := by
  unfold T_X24_ungrouped at w
  unfold cX24_ungrouped
  exact w_X24_ungrouped_0 w
def W_X24_title_0 (D : JD) (d : Nat) (Q : JO → JH → Prop) (h : JH) : Prop :=
  Q (.inl (some (vR 64 (jcs D 178)))) h
theorem w_X24_title_0 {D : JD} {d : Nat} {Q : JO → JH → Prop} {h : JH} (w : W_X24_title_0 D d Q h) : JW D (d + 1) mX24_title 0 [none] [] h Q := by
  unfold W_X24_title_0 at w
  refine jw_ldcS (pc' := 2) rfl rfl rfl rfl ?_
  exact jw_areturn rfl rfl rfl rfl rfl w
def T_X24_title (D : JD) (d : Nat) (Q : JO → JH → Prop) (r0 : Nat) (h : JH) : Prop := W_X24_title_0 D d Q h
theorem t_X24_title {D : JD} {d : Nat} {Q : JO → JH → Prop} {r0 : Nat} {h : JH} (w : T_X24_title D d Q r0 h) : cX24_title D (d + 1) r0 h Q := by
  unfold T_X24_title at w
  unfold cX24_title
  refine jw_gen (ls' := [none]) (st' := []) (trivial) (trivial) ?_
  exact w_X24_title_0 w
def W_X25_init_0 (D : JD) (d : Nat) (Q : JO → JH → Prop) (r0 : Nat) (x1 : Int32) (h : JH) : Prop :=
  r0 ≠ 0 ∧ (cX24_init D d r0 h (pV D h (fun h_2 => ∀ h_5 : JH, h_5 = wfi h_2 110 r0 x1 → (Q (.inl none) h_5)) (jth Q)))
theorem w_X25_init_0 {D : JD} {d : Nat} {Q : JO → JH → Prop} {r0 : Nat} {x1 : Int32} {h : JH} (w : W_X25_init_0 D d Q r0 x1 h) : JW D (d + 1) mX25_init 0 [some (vR 20 r0), some (vI x1)] [] h Q := by
  unfold W_X25_init_0 at w
  refine jw_aload_n (pc' := 1) rfl rfl ?_
  obtain ⟨g_1, w⟩ := w
  refine jw_cV (st := []) (sa := [vR 20 r0]) okX24_init rfl rfl rfl rfl rfl rfl (jstp_init (sa := []) (st := []) rfl rfl sX24_init okX24_init (lw_g (jtb_mem (c := 7) (i := 95) rfl) rfl) g_1 rfl rfl) w (fun h_2 _ _ w => ?_)
  refine jw_aload_n (pc' := 5) rfl rfl ?_
  refine jw_iload_n (pc' := 6) rfl rfl ?_
  refine jw_putI' (pc' := 9) (F := 110) rfl rfl rfl (Or.inr rfl) (Or.inr ⟨rfl, rfl⟩) rfl (rfl) (rfl) rfl g_1 (fun h_5 e_6 => ?_)
  replace w := w h_5 e_6
  exact jw_return rfl rfl w
def T_X25_init (D : JD) (d : Nat) (Q : JO → JH → Prop) (r0 : Nat) (x1 : Int32) (h : JH) : Prop := W_X25_init_0 D d Q r0 x1 h
theorem t_X25_init {D : JD} {d : Nat} {Q : JO → JH → Prop} {r0 : Nat} {x1 : Int32} {h : JH} (w : T_X25_init D d Q r0 x1 h) : cX25_init D (d + 1) r0 x1 h Q := by
  unfold T_X25_init at w
  unfold cX25_init
  exact w_X25_init_0 w
def W_X25_check_0 (D : JD) (d : Nat) (Q : JO → JH → Prop) (r0 : Nat) (r1 : Nat) (h : JH) : Prop :=
  r0 ≠ 0 ∧ (r1 ≠ 0 ∧ ((jfr h 49 r1) ≠ 0 ∧ (((jfi h 110 r0) ≤ (nI (jln h (jfr h 49 r1))) → jin ((jfi h 110 r0) - (1 : Int32)) (jln h (jfr h 49 r1)) ∧ (∀ h_6 : JH, h_6 = wfr h 109 r0 (jar h (jfr h 49 r1) (ixn ((jfi h 110 r0) - (1 : Int32)))) → (Q (.inl (some (vR 52 (jfr h_6 109 r0)))) h_6))) ∧ (¬ (jfi h 110 r0) ≤ (nI (jln h (jfr h 49 r1))) → cX1_fault D d (jcs D 167) h (pR D h 9 (fun v_10 h_8 => v_10 ≠ 0 ∧ (Q (.inr v_10) h_8)) (jth Q))))))
theorem w_X25_check_0 {D : JD} {d : Nat} {Q : JO → JH → Prop} {r0 : Nat} {r1 : Nat} {h : JH} (w : W_X25_check_0 D d Q r0 r1 h) : JW D (d + 1) mX25_check 0 [some (vR 20 r0), some (vR 6 r1)] [] h Q := by
  unfold W_X25_check_0 at w
  refine jw_aload_n (pc' := 1) rfl rfl ?_
  obtain ⟨g_1, w⟩ := w
  refine jw_getI (pc' := 4) (F := 110) rfl rfl rfl rfl g_1 ?_
  refine jw_aload_n (pc' := 5) rfl rfl ?_
  obtain ⟨g_2, w⟩ := w
  refine jw_getR (pc' := 8) (F := 49) (t' := 75) rfl rfl rfl rfl rfl g_2 ?_
  obtain ⟨g_3, w⟩ := w
  refine jw_alen (pc' := 9) rfl rfl g_3 ?_
  refine jw_icmp_le (tgt := 18) (pc' := 12) rfl rfl (fun c_4 => ?_) (fun c_4 => ?_)
  · replace w := w.1 c_4
    refine jw_aload_n (pc' := 19) rfl rfl ?_
    refine jw_aload_n (pc' := 20) rfl rfl ?_
    refine jw_getR (pc' := 23) (F := 49) (t' := 75) rfl rfl rfl rfl rfl g_2 ?_
    refine jw_aload_n (pc' := 24) rfl rfl ?_
    refine jw_getI (pc' := 27) (F := 110) rfl rfl rfl rfl g_1 ?_
    refine jw_iconst (pc' := 28) (x := (1 : Int32)) rfl rfl ?_
    refine jw_isub (pc' := 29) rfl ?_
    obtain ⟨g_5, w⟩ := w
    refine jw_aald (pc' := 30) (t' := 52) rfl rfl rfl rfl g_3 g_5.ix g_5.2 ?_
    refine jw_putR' (pc' := 33) (F := 109) rfl rfl rfl (Or.inr rfl) (Or.inl rfl) rfl rfl rfl g_1 (fun h_6 e_7 => ?_)
    replace w := w h_6 e_7
    refine jw_aload_n (pc' := 34) rfl rfl ?_
    refine jw_getR (pc' := 37) (F := 109) (t' := 52) rfl rfl rfl rfl rfl g_1 ?_
    exact jw_areturn rfl rfl rfl rfl rfl w
  · replace w := w.2 c_4
    refine jw_ldcS (pc' := 14) rfl rfl rfl rfl ?_
    refine jw_cR (st := []) (sa := [vR 51 (jcs D 167)]) okX1_fault rfl rfl rfl rfl rfl rfl (jstp_static (sa := [vR 51 (jcs D 167)]) (st := []) rfl rfl sX1_fault okX1_fault rfl rfl) w (fun v_10 h_8 _ _ _ w => ?_)
    obtain ⟨g_11, w⟩ := w
    exact jw_athrow rfl rfl g_11 w
def T_X25_check (D : JD) (d : Nat) (Q : JO → JH → Prop) (r0 : Nat) (r1 : Nat) (h : JH) : Prop := W_X25_check_0 D d Q r0 r1 h
theorem t_X25_check {D : JD} {d : Nat} {Q : JO → JH → Prop} {r0 : Nat} {r1 : Nat} {h : JH} (w : T_X25_check D d Q r0 r1 h) : cX25_check D (d + 1) r0 r1 h Q := by
  unfold T_X25_check at w
  unfold cX25_check
  exact w_X25_check_0 w
def W_X25_like_26 (D : JD) (d : Nat) (Q : JO → JH → Prop) (s0 : Int32) (h : JH) : Prop :=
  jbo s0 ∧ (Q (.inl (some (vI s0))) h)
theorem w_X25_like_26 {D : JD} {d : Nat} {Q : JO → JH → Prop} {s0 : Int32} {h : JH} (w : W_X25_like_26 D d Q s0 h) : JW D (d + 1) mX25_like 26 [none, none] [vI s0] h Q := by
  unfold W_X25_like_26 at w
  obtain ⟨g_1, w⟩ := w
  exact jw_ireturn rfl rfl (g_1.nr) w
def W_X25_like_25 (D : JD) (d : Nat) (Q : JO → JH → Prop) (h : JH) : Prop :=
  W_X25_like_26 D d Q (0 : Int32) h
theorem w_X25_like_25 {D : JD} {d : Nat} {Q : JO → JH → Prop} {h : JH} (w : W_X25_like_25 D d Q h) : JW D (d + 1) mX25_like 25 [none, none] [] h Q := by
  unfold W_X25_like_25 at w
  refine jw_iconst (pc' := 26) (x := (0 : Int32)) rfl rfl ?_
  exact w_X25_like_26 w
def W_X25_like_0 (D : JD) (d : Nat) (Q : JO → JH → Prop) (r0 : Nat) (r1 : Nat) (h : JH) : Prop :=
  ((r1 ≠ 0 ∧ jkd h r1 = 20) → (r1 = 0 ∨ jkd h r1 = 20) ∧ (r1 ≠ 0 ∧ (r0 ≠ 0 ∧ ((¬ (jfi h 110 r1) = (jfi h 110 r0) → W_X25_like_25 D d Q h) ∧ ((jfi h 110 r1) = (jfi h 110 r0) → W_X25_like_26 D d Q (1 : Int32) h))))) ∧ (¬ (r1 ≠ 0 ∧ jkd h r1 = 20) → W_X25_like_25 D d Q h)
theorem w_X25_like_0 {D : JD} {d : Nat} {Q : JO → JH → Prop} {r0 : Nat} {r1 : Nat} {h : JH} (w : W_X25_like_0 D d Q r0 r1 h) : JW D (d + 1) mX25_like 0 [some (vR 20 r0), some (vR 55 r1)] [] h Q := by
  unfold W_X25_like_0 at w
  refine jw_aload_n (pc' := 1) rfl rfl ?_
  refine jw_inst (pc' := 4) (t := 55) (kt := 20) rfl rfl rfl rfl (by decide +kernel) (fun c_1 => ?_) (fun c_1 => ?_)
  · replace w := w.1 c_1
    refine jw_if_eq (tgt := 25) (pc' := 7) rfl rfl (fun c_2 => absurd c_2 (by decide)) (fun _ => ?_)
    refine jw_aload_n (pc' := 8) rfl rfl ?_
    obtain ⟨g_3, w⟩ := w
    refine jw_cast (pc' := 11) (t2 := 20) rfl rfl rfl rfl g_3 ?_
    obtain ⟨g_4, w⟩ := w
    refine jw_getI (pc' := 14) (F := 110) rfl rfl rfl rfl g_4 ?_
    refine jw_aload_n (pc' := 15) rfl rfl ?_
    obtain ⟨g_5, w⟩ := w
    refine jw_getI (pc' := 18) (F := 110) rfl rfl rfl rfl g_5 ?_
    refine jw_icmp_ne (tgt := 25) (pc' := 21) rfl rfl (fun c_6 => ?_) (fun c_6 => ?_)
    · replace w := w.1 c_6
      refine jw_gen (ls' := [none, none]) (st' := []) (trivial) (trivial) ?_
      exact w_X25_like_25 w
    · replace w := w.2 c_6
      refine jw_iconst (pc' := 22) (x := (1 : Int32)) rfl rfl ?_
      refine jw_goto (pc' := 26) rfl rfl ?_
      refine jw_gen (ls' := [none, none]) (st' := [vI (1 : Int32)]) (trivial) (And.intro (Or.inl rfl) (trivial)) ?_
      exact w_X25_like_26 w
  · replace w := w.2 c_1
    refine jw_if_eq (tgt := 25) (pc' := 7) rfl rfl (fun _ => ?_) (fun c_7 => absurd c_7 (by decide))
    refine jw_gen (ls' := [none, none]) (st' := []) (trivial) (trivial) ?_
    exact w_X25_like_25 w
def T_X25_like (D : JD) (d : Nat) (Q : JO → JH → Prop) (r0 : Nat) (r1 : Nat) (h : JH) : Prop := W_X25_like_0 D d Q r0 r1 h
theorem t_X25_like {D : JD} {d : Nat} {Q : JO → JH → Prop} {r0 : Nat} {r1 : Nat} {h : JH} (w : T_X25_like D d Q r0 r1 h) : cX25_like D (d + 1) r0 r1 h Q := by
  unfold T_X25_like at w
  unfold cX25_like
  exact w_X25_like_0 w
def W_X25_at_0 (D : JD) (d : Nat) (Q : JO → JH → Prop) (r0 : Nat) (r1 : Nat) (h : JH) : Prop :=
  r1 ≠ 0 ∧ (r0 ≠ 0 ∧ ((jfr h 50 r1) ≠ 0 ∧ jin ((jfi h 110 r0) - (1 : Int32)) (jln h (jfr h 50 r1)) ∧ (Q (.inl (some (vR 8 (jar h (jfr h 50 r1) (ixn ((jfi h 110 r0) - (1 : Int32))))))) h)))
theorem w_X25_at_0 {D : JD} {d : Nat} {Q : JO → JH → Prop} {r0 : Nat} {r1 : Nat} {h : JH} (w : W_X25_at_0 D d Q r0 r1 h) : JW D (d + 1) mX25_at 0 [some (vR 20 r0), some (vR 6 r1)] [] h Q := by
  unfold W_X25_at_0 at w
  refine jw_aload_n (pc' := 1) rfl rfl ?_
  obtain ⟨g_1, w⟩ := w
  refine jw_getR (pc' := 4) (F := 50) (t' := 76) rfl rfl rfl rfl rfl g_1 ?_
  refine jw_aload_n (pc' := 5) rfl rfl ?_
  obtain ⟨g_2, w⟩ := w
  refine jw_getI (pc' := 8) (F := 110) rfl rfl rfl rfl g_2 ?_
  refine jw_iconst (pc' := 9) (x := (1 : Int32)) rfl rfl ?_
  refine jw_isub (pc' := 10) rfl ?_
  obtain ⟨g_3, w⟩ := w
  obtain ⟨g_4, w⟩ := w
  refine jw_aald (pc' := 11) (t' := 8) rfl rfl rfl rfl g_3 g_4.ix g_4.2 ?_
  exact jw_areturn rfl rfl rfl rfl rfl w
def T_X25_at (D : JD) (d : Nat) (Q : JO → JH → Prop) (r0 : Nat) (r1 : Nat) (h : JH) : Prop := W_X25_at_0 D d Q r0 r1 h
theorem t_X25_at {D : JD} {d : Nat} {Q : JO → JH → Prop} {r0 : Nat} {r1 : Nat} {h : JH} (w : T_X25_at D d Q r0 r1 h) : cX25_at D (d + 1) r0 r1 h Q := by
  unfold T_X25_at at w
  unfold cX25_at
  exact w_X25_at_0 w
def W_X26_init_0 (D : JD) (d : Nat) (Q : JO → JH → Prop) (r0 : Nat) (r1 : Nat) (x2 : Int32) (h : JH) : Prop :=
  r0 ≠ 0 ∧ (cX24_init D d r0 h (pV D h (fun h_2 => ∀ h_5 : JH, h_5 = wfr h_2 111 r0 r1 → (∀ h_7 : JH, h_7 = wfi h_5 112 r0 x2 → (Q (.inl none) h_7))) (jth Q)))
theorem w_X26_init_0 {D : JD} {d : Nat} {Q : JO → JH → Prop} {r0 : Nat} {r1 : Nat} {x2 : Int32} {h : JH} (w : W_X26_init_0 D d Q r0 r1 x2 h) : JW D (d + 1) mX26_init 0 [some (vR 56 r0), some (vR 77 r1), some (vI x2)] [] h Q := by
  unfold W_X26_init_0 at w
  refine jw_aload_n (pc' := 1) rfl rfl ?_
  obtain ⟨g_1, w⟩ := w
  refine jw_cV (st := []) (sa := [vR 56 r0]) okX24_init rfl rfl rfl rfl rfl rfl (jstp_init (sa := []) (st := []) rfl rfl sX24_init okX24_init (lw_g (jtb_mem (c := 7) (i := 95) rfl) rfl) g_1 rfl rfl) w (fun h_2 _ _ w => ?_)
  refine jw_aload_n (pc' := 5) rfl rfl ?_
  refine jw_aload_n (pc' := 6) rfl rfl ?_
  refine jw_putR' (pc' := 9) (F := 111) rfl rfl rfl (Or.inr rfl) (Or.inr ⟨rfl, rfl⟩) rfl rfl rfl g_1 (fun h_5 e_6 => ?_)
  replace w := w h_5 e_6
  refine jw_aload_n (pc' := 10) rfl rfl ?_
  refine jw_iload_n (pc' := 11) rfl rfl ?_
  refine jw_putI' (pc' := 14) (F := 112) rfl rfl rfl (Or.inr rfl) (Or.inr ⟨rfl, rfl⟩) rfl (rfl) (rfl) rfl g_1 (fun h_7 e_8 => ?_)
  replace w := w h_7 e_8
  exact jw_return rfl rfl w
def T_X26_init (D : JD) (d : Nat) (Q : JO → JH → Prop) (r0 : Nat) (r1 : Nat) (x2 : Int32) (h : JH) : Prop := W_X26_init_0 D d Q r0 r1 x2 h
theorem t_X26_init {D : JD} {d : Nat} {Q : JO → JH → Prop} {r0 : Nat} {r1 : Nat} {x2 : Int32} {h : JH} (w : T_X26_init D d Q r0 r1 x2 h) : cX26_init D (d + 1) r0 r1 x2 h Q := by
  unfold T_X26_init at w
  unfold cX26_init
  exact w_X26_init_0 w
def W_X26_one_38 (D : JD) (d : Nat) (Q : JO → JH → Prop) (K6 : Nat → Nat → Int32 → JH → Prop) (r0 : Nat) (r1 : Nat) (x2 : Int32) (h : JH) : Prop :=
  K6 r0 r1 (x2 + (1 : Int32)) h
theorem w_X26_one_38 {D : JD} {d : Nat} {Q : JO → JH → Prop} {K6 : Nat → Nat → Int32 → JH → Prop} {r0 : Nat} {r1 : Nat} {x2 : Int32} {h : JH} (hK6 : ∀ (r0 : Nat) (r1 : Nat) (x2 : Int32) (h : JH), K6 r0 r1 x2 h → JW D (d + 1) mX26_one 6 [some (vR 56 r0), some (vR 52 r1), some (vI x2), none] [] h Q) (w : W_X26_one_38 D d Q K6 r0 r1 x2 h) : JW D (d + 1) mX26_one 38 [some (vR 56 r0), some (vR 52 r1), some (vI x2), none] [] h Q := by
  unfold W_X26_one_38 at w
  refine jw_iinc (pc' := 41) (y := x2 + (1 : Int32)) (ls' := [some (vR 56 r0), some (vR 52 r1), some (vI (x2 + (1 : Int32))), none]) rfl (by decide) rfl rfl rfl ?_
  refine jw_goto (pc' := 6) rfl rfl ?_
  exact hK6 _ _ _ _ w
def W_X26_one_6 (D : JD) (d : Nat) (Q : JO → JH → Prop) (K6 : Nat → Nat → Int32 → JH → Prop) (r0 : Nat) (r1 : Nat) (x2 : Int32) (h : JH) : Prop :=
  r0 ≠ 0 ∧ (((jfi h 112 r0) ≤ x2 → Q (.inl (some (vR 52 r1))) h) ∧ (¬ (jfi h 112 r0) ≤ x2 → (jfr h 111 r0) ≠ 0 ∧ jin x2 (jln h (jfr h 111 r0)) ∧ ((jar h (jfr h 111 r0) (ixn x2)) ≠ 0 ∧ (cX24_need D d r1 (jfr h 109 (jar h (jfr h 111 r0) (ixn x2))) h (pV D h (fun h_6 => (¬ r1 = (jcs D 345) → W_X26_one_38 D d Q K6 r0 r1 x2 h_6) ∧ (r1 = (jcs D 345) → W_X26_one_38 D d Q K6 r0 (jfr h 109 (jar h (jfr h 111 r0) (ixn x2))) x2 h_6)) (jth Q))))))
theorem w_X26_one_6 {D : JD} {d : Nat} {Q : JO → JH → Prop} {K6 : Nat → Nat → Int32 → JH → Prop} {r0 : Nat} {r1 : Nat} {x2 : Int32} {h : JH} (hK6 : ∀ (r0 : Nat) (r1 : Nat) (x2 : Int32) (h : JH), K6 r0 r1 x2 h → JW D (d + 1) mX26_one 6 [some (vR 56 r0), some (vR 52 r1), some (vI x2), none] [] h Q) (w : W_X26_one_6 D d Q K6 r0 r1 x2 h) : JW D (d + 1) mX26_one 6 [some (vR 56 r0), some (vR 52 r1), some (vI x2), none] [] h Q := by
  unfold W_X26_one_6 at w
  refine jw_iload_n (pc' := 7) rfl rfl ?_
  refine jw_aload_n (pc' := 8) rfl rfl ?_
  obtain ⟨g_1, w⟩ := w
  refine jw_getI (pc' := 11) (F := 112) rfl rfl rfl rfl g_1 ?_
  refine jw_icmp_ge (tgt := 44) (pc' := 14) rfl rfl (fun c_2 => ?_) (fun c_2 => ?_)
  · replace w := w.1 c_2
    refine jw_aload_n (pc' := 45) rfl rfl ?_
    exact jw_areturn rfl rfl rfl rfl rfl w
  · replace w := w.2 c_2
    refine jw_aload_n (pc' := 15) rfl rfl ?_
    refine jw_getR (pc' := 18) (F := 111) (t' := 77) rfl rfl rfl rfl rfl g_1 ?_
    refine jw_iload_n (pc' := 19) rfl rfl ?_
    obtain ⟨g_3, w⟩ := w
    obtain ⟨g_4, w⟩ := w
    refine jw_aald (pc' := 20) (t' := 55) rfl rfl rfl rfl g_3 g_4.ix g_4.2 ?_
    obtain ⟨g_5, w⟩ := w
    refine jw_getR (pc' := 23) (F := 109) (t' := 52) rfl rfl rfl rfl rfl g_5 ?_
    refine jw_astore_n (pc' := 24) (ls' := [some (vR 56 r0), some (vR 52 r1), some (vI x2), some (vR 52 (jfr h 109 (jar h (jfr h 111 r0) (ixn x2))))]) rfl (by decide) rfl ?_
    refine jw_aload_n (pc' := 25) rfl rfl ?_
    refine jw_aload_n (pc' := 26) rfl rfl ?_
    refine jw_cV (st := []) (sa := [vR 52 r1, vR 52 (jfr h 109 (jar h (jfr h 111 r0) (ixn x2)))]) okX24_need rfl rfl rfl rfl rfl rfl (jstp_staticUp (sa := [vR 52 r1, vR 52 (jfr h 109 (jar h (jfr h 111 r0) (ixn x2)))]) (st := []) rfl (lw_g (jtb_mem (c := 10) (i := 104) rfl) rfl) (lw_g (jtb_mem (c := 10) (i := 105) rfl) rfl) rfl sX24_need okX24_need rfl rfl) w (fun h_6 _ _ w => ?_)
    refine jw_aload_n (pc' := 30) rfl rfl ?_
    refine jw_getsR (pc' := 33) rfl rfl rfl rfl ?_
    refine jw_acmp_ne (tgt := 38) (pc' := 36) rfl rfl (fun c_9 => ?_) (fun c_9 => ?_)
    · replace w := w.1 c_9
      refine jw_gen (ls' := [some (vR 56 r0), some (vR 52 r1), some (vI x2), none]) (st' := []) (And.intro (Or.inl rfl) (And.intro (Or.inl rfl) (And.intro (Or.inl rfl) (trivial)))) (trivial) ?_
      exact w_X26_one_38 hK6 w
    · replace w := w.2 c_9
      refine jw_aload_n (pc' := 37) rfl rfl ?_
      refine jw_astore_n (pc' := 38) (ls' := [some (vR 56 r0), some (vR 52 (jfr h 109 (jar h (jfr h 111 r0) (ixn x2)))), some (vI x2), some (vR 52 (jfr h 109 (jar h (jfr h 111 r0) (ixn x2))))]) rfl (by decide) rfl ?_
      refine jw_gen (ls' := [some (vR 56 r0), some (vR 52 (jfr h 109 (jar h (jfr h 111 r0) (ixn x2)))), some (vI x2), none]) (st' := []) (And.intro (Or.inl rfl) (And.intro (Or.inl rfl) (And.intro (Or.inl rfl) (trivial)))) (trivial) ?_
      exact w_X26_one_38 hK6 w
def L_X26_one_6 (D : JD) (d : Nat) (Q : JO → JH → Prop) : Nat → Nat → Nat → Int32 → JH → Prop
  | 0 => fun _ _ _ _ => False
  | n + 1 => fun r0 r1 x2 h => W_X26_one_6 D d Q (L_X26_one_6 D d Q n) r0 r1 x2 h
theorem l_X26_one_6 {D : JD} {d : Nat} {Q : JO → JH → Prop} : ∀ (n : Nat) (r0 : Nat) (r1 : Nat) (x2 : Int32) (h : JH), L_X26_one_6 D d Q n r0 r1 x2 h → JW D (d + 1) mX26_one 6 [some (vR 56 r0), some (vR 52 r1), some (vI x2), none] [] h Q := by
  intro n
  induction n with
  | zero => intro _ _ _ _ w; exact w.elim
  | succ n ih => intro _ _ _ h w; exact w_X26_one_6 ih w
def W_X26_one_0 (D : JD) (d : Nat) (Q : JO → JH → Prop) (r0 : Nat) (h : JH) : Prop :=
  ∃ n, L_X26_one_6 D d Q n r0 (jcs D 345) (0 : Int32) h
theorem w_X26_one_0 {D : JD} {d : Nat} {Q : JO → JH → Prop} {r0 : Nat} {h : JH} (w : W_X26_one_0 D d Q r0 h) : JW D (d + 1) mX26_one 0 [some (vR 56 r0), none, none, none] [] h Q := by
  unfold W_X26_one_0 at w
  refine jw_getsR (pc' := 3) rfl rfl rfl rfl ?_
  refine jw_astore_n (pc' := 4) (ls' := [some (vR 56 r0), some (vR 52 (jcs D 345)), none, none]) rfl (by decide) rfl ?_
  refine jw_iconst (pc' := 5) (x := (0 : Int32)) rfl rfl ?_
  refine jw_istore_n (pc' := 6) (ls' := [some (vR 56 r0), some (vR 52 (jcs D 345)), some (vI (0 : Int32)), none]) rfl (by decide) rfl ?_
  obtain ⟨n, w⟩ := w
  exact l_X26_one_6 n _ _ _ _ w
def T_X26_one (D : JD) (d : Nat) (Q : JO → JH → Prop) (r0 : Nat) (h : JH) : Prop := W_X26_one_0 D d Q r0 h
theorem t_X26_one {D : JD} {d : Nat} {Q : JO → JH → Prop} {r0 : Nat} {h : JH} (w : T_X26_one D d Q r0 h) : cX26_one D (d + 1) r0 h Q := by
  unfold T_X26_one at w
  unfold cX26_one
  exact w_X26_one_0 w
def W_X26_count_0 (D : JD) (d : Nat) (Q : JO → JH → Prop) (r0 : Nat) (h : JH) : Prop :=
  r0 ≠ 0 ∧ (Q (.inl (some (vI (jfi h 112 r0)))) h)
theorem w_X26_count_0 {D : JD} {d : Nat} {Q : JO → JH → Prop} {r0 : Nat} {h : JH} (w : W_X26_count_0 D d Q r0 h) : JW D (d + 1) mX26_count 0 [some (vR 56 r0)] [] h Q := by
  unfold W_X26_count_0 at w
  refine jw_aload_n (pc' := 1) rfl rfl ?_
  obtain ⟨g_1, w⟩ := w
  refine jw_getI (pc' := 4) (F := 112) rfl rfl rfl rfl g_1 ?_
  exact jw_ireturn rfl rfl (rfl) w
def T_X26_count (D : JD) (d : Nat) (Q : JO → JH → Prop) (r0 : Nat) (h : JH) : Prop := W_X26_count_0 D d Q r0 h
theorem t_X26_count {D : JD} {d : Nat} {Q : JO → JH → Prop} {r0 : Nat} {h : JH} (w : T_X26_count D d Q r0 h) : cX26_count D (d + 1) r0 h Q := by
  unfold T_X26_count at w
  unfold cX26_count
  exact w_X26_count_0 w
def W_X26_part_0 (D : JD) (d : Nat) (Q : JO → JH → Prop) (r0 : Nat) (x1 : Int32) (h : JH) : Prop :=
  r0 ≠ 0 ∧ ((jfr h 111 r0) ≠ 0 ∧ jin x1 (jln h (jfr h 111 r0)) ∧ (Q (.inl (some (vR 55 (jar h (jfr h 111 r0) (ixn x1))))) h))
theorem w_X26_part_0 {D : JD} {d : Nat} {Q : JO → JH → Prop} {r0 : Nat} {x1 : Int32} {h : JH} (w : W_X26_part_0 D d Q r0 x1 h) : JW D (d + 1) mX26_part 0 [some (vR 56 r0), some (vI x1)] [] h Q := by
  unfold W_X26_part_0 at w
  refine jw_aload_n (pc' := 1) rfl rfl ?_
  obtain ⟨g_1, w⟩ := w
  refine jw_getR (pc' := 4) (F := 111) (t' := 77) rfl rfl rfl rfl rfl g_1 ?_
  refine jw_iload_n (pc' := 5) rfl rfl ?_
  obtain ⟨g_2, w⟩ := w
  obtain ⟨g_3, w⟩ := w
  refine jw_aald (pc' := 6) (t' := 55) rfl rfl rfl rfl g_2 g_3.ix g_3.2 ?_
  exact jw_areturn rfl rfl rfl rfl rfl w
def T_X26_part (D : JD) (d : Nat) (Q : JO → JH → Prop) (r0 : Nat) (x1 : Int32) (h : JH) : Prop := W_X26_part_0 D d Q r0 x1 h
theorem t_X26_part {D : JD} {d : Nat} {Q : JO → JH → Prop} {r0 : Nat} {x1 : Int32} {h : JH} (w : T_X26_part D d Q r0 x1 h) : cX26_part D (d + 1) r0 x1 h Q := by
  unfold T_X26_part at w
  unfold cX26_part
  exact w_X26_part_0 w
def W_X27_init_0 (D : JD) (d : Nat) (Q : JO → JH → Prop) (r0 : Nat) (r1 : Nat) (x2 : Int32) (h : JH) : Prop :=
  r0 ≠ 0 ∧ (cX26_init D d r0 r1 x2 h (pV D h (fun h_2 => Q (.inl none) h_2) (jth Q)))
theorem w_X27_init_0 {D : JD} {d : Nat} {Q : JO → JH → Prop} {r0 : Nat} {r1 : Nat} {x2 : Int32} {h : JH} (w : W_X27_init_0 D d Q r0 r1 x2 h) : JW D (d + 1) mX27_init 0 [some (vR 21 r0), some (vR 77 r1), some (vI x2)] [] h Q := by
  unfold W_X27_init_0 at w
  refine jw_aload_n (pc' := 1) rfl rfl ?_
  refine jw_aload_n (pc' := 2) rfl rfl ?_
  refine jw_iload_n (pc' := 3) rfl rfl ?_
  obtain ⟨g_1, w⟩ := w
  refine jw_cV (st := []) (sa := [vR 21 r0, vR 77 r1, vI x2]) okX26_init rfl rfl rfl rfl rfl rfl (jstp_init (sa := [vR 77 r1, vI x2]) (st := []) rfl rfl sX26_init okX26_init (lw_g (jtb_mem (c := 7) (i := 184) rfl) rfl) g_1 rfl rfl) w (fun h_2 _ _ w => ?_)
  exact jw_return rfl rfl w
def T_X27_init (D : JD) (d : Nat) (Q : JO → JH → Prop) (r0 : Nat) (r1 : Nat) (x2 : Int32) (h : JH) : Prop := W_X27_init_0 D d Q r0 r1 x2 h
theorem t_X27_init {D : JD} {d : Nat} {Q : JO → JH → Prop} {r0 : Nat} {r1 : Nat} {x2 : Int32} {h : JH} (w : T_X27_init D d Q r0 r1 x2 h) : cX27_init D (d + 1) r0 r1 x2 h Q := by
  unfold T_X27_init at w
  unfold cX27_init
  exact w_X27_init_0 w
def W_X27_check_95 (D : JD) (d : Nat) (Q : JO → JH → Prop) (K33 : Nat → Nat → Int32 → JH → Prop) (r0 : Nat) (r2 : Nat) (x3 : Int32) (h : JH) : Prop :=
  K33 r0 r2 (x3 + (1 : Int32)) h
theorem w_X27_check_95 {D : JD} {d : Nat} {Q : JO → JH → Prop} {K33 : Nat → Nat → Int32 → JH → Prop} {r0 : Nat} {r2 : Nat} {x3 : Int32} {h : JH} (hK33 : ∀ (r0 : Nat) (r2 : Nat) (x3 : Int32) (h : JH), K33 r0 r2 x3 h → JW D (d + 1) mX27_check 33 [some (vR 21 r0), none, some (vR 52 r2), some (vI x3), none] [] h Q) (w : W_X27_check_95 D d Q K33 r0 r2 x3 h) : JW D (d + 1) mX27_check 95 [some (vR 21 r0), none, some (vR 52 r2), some (vI x3), none] [] h Q := by
  unfold W_X27_check_95 at w
  refine jw_iinc (pc' := 98) (y := x3 + (1 : Int32)) (ls' := [some (vR 21 r0), none, some (vR 52 r2), some (vI (x3 + (1 : Int32))), none]) rfl (by decide) rfl rfl rfl ?_
  refine jw_goto (pc' := 33) rfl rfl ?_
  exact hK33 _ _ _ _ w
def W_X27_check_79 (D : JD) (d : Nat) (Q : JO → JH → Prop) (K33 : Nat → Nat → Int32 → JH → Prop) (r0 : Nat) (r2 : Nat) (x3 : Int32) (r4 : Nat) (h : JH) : Prop :=
  cX24_need D d r2 r4 h (pV D h (fun h_1 => (¬ r2 = (jcs D 345) → W_X27_check_95 D d Q K33 r0 r2 x3 h_1) ∧ (r2 = (jcs D 345) → W_X27_check_95 D d Q K33 r0 r4 x3 h_1)) (jth Q))
theorem w_X27_check_79 {D : JD} {d : Nat} {Q : JO → JH → Prop} {K33 : Nat → Nat → Int32 → JH → Prop} {r0 : Nat} {r2 : Nat} {x3 : Int32} {r4 : Nat} {h : JH} (hK33 : ∀ (r0 : Nat) (r2 : Nat) (x3 : Int32) (h : JH), K33 r0 r2 x3 h → JW D (d + 1) mX27_check 33 [some (vR 21 r0), none, some (vR 52 r2), some (vI x3), none] [] h Q) (w : W_X27_check_79 D d Q K33 r0 r2 x3 r4 h) : JW D (d + 1) mX27_check 79 [some (vR 21 r0), none, some (vR 52 r2), some (vI x3), some (vR 52 r4)] [] h Q := by
  unfold W_X27_check_79 at w
  refine jw_aload_n (pc' := 80) rfl rfl ?_
  refine jw_aload (pc' := 82) rfl rfl ?_
  refine jw_cV (st := []) (sa := [vR 52 r2, vR 52 r4]) okX24_need rfl rfl rfl rfl rfl rfl (jstp_staticUp (sa := [vR 52 r2, vR 52 r4]) (st := []) rfl (lw_g (jtb_mem (c := 10) (i := 136) rfl) rfl) (lw_g (jtb_mem (c := 10) (i := 137) rfl) rfl) rfl sX24_need okX24_need rfl rfl) w (fun h_1 _ _ w => ?_)
  refine jw_aload_n (pc' := 86) rfl rfl ?_
  refine jw_getsR (pc' := 89) rfl rfl rfl rfl ?_
  refine jw_acmp_ne (tgt := 95) (pc' := 92) rfl rfl (fun c_4 => ?_) (fun c_4 => ?_)
  · replace w := w.1 c_4
    refine jw_gen (ls' := [some (vR 21 r0), none, some (vR 52 r2), some (vI x3), none]) (st' := []) (And.intro (Or.inl rfl) (And.intro (Or.inl rfl) (And.intro (Or.inl rfl) (trivial)))) (trivial) ?_
    exact w_X27_check_95 hK33 w
  · replace w := w.2 c_4
    refine jw_aload (pc' := 94) rfl rfl ?_
    refine jw_astore_n (pc' := 95) (ls' := [some (vR 21 r0), none, some (vR 52 r4), some (vI x3), some (vR 52 r4)]) rfl (by decide) rfl ?_
    refine jw_gen (ls' := [some (vR 21 r0), none, some (vR 52 r4), some (vI x3), none]) (st' := []) (And.intro (Or.inl rfl) (And.intro (Or.inl rfl) (And.intro (Or.inl rfl) (trivial)))) (trivial) ?_
    exact w_X27_check_95 hK33 w
def W_X27_check_33 (D : JD) (d : Nat) (Q : JO → JH → Prop) (K33 : Nat → Nat → Int32 → JH → Prop) (r0 : Nat) (r2 : Nat) (x3 : Int32) (h : JH) : Prop :=
  r0 ≠ 0 ∧ (((jfi h 112 r0) ≤ x3 → ∀ h_3 : JH, h_3 = wfr h 109 r0 r2 → (Q (.inl (some (vR 52 r2))) h_3)) ∧ (¬ (jfi h 112 r0) ≤ x3 → (jfr h 111 r0) ≠ 0 ∧ jin x3 (jln h (jfr h 111 r0)) ∧ ((jar h (jfr h 111 r0) (ixn x3)) ≠ 0 ∧ ((¬ (x3 - x3 / (2 : Int32) * (2 : Int32)) = 0 → W_X27_check_79 D d Q K33 r0 r2 x3 (jfr h 109 (jar h (jfr h 111 r0) (ixn x3))) h) ∧ ((x3 - x3 / (2 : Int32) * (2 : Int32)) = 0 → ((jfi h 112 r0) ≤ (x3 + (1 : Int32)) → W_X27_check_79 D d Q K33 r0 r2 x3 (jfr h 109 (jar h (jfr h 111 r0) (ixn x3))) h) ∧ (¬ (jfi h 112 r0) ≤ (x3 + (1 : Int32)) → cX24_need D d (jfr h 109 (jar h (jfr h 111 r0) (ixn x3))) (jcs D 357) h (pV D h (fun h_10 => W_X27_check_95 D d Q K33 r0 r2 x3 h_10) (jth Q))))))))
theorem w_X27_check_33 {D : JD} {d : Nat} {Q : JO → JH → Prop} {K33 : Nat → Nat → Int32 → JH → Prop} {r0 : Nat} {r2 : Nat} {x3 : Int32} {h : JH} (hK33 : ∀ (r0 : Nat) (r2 : Nat) (x3 : Int32) (h : JH), K33 r0 r2 x3 h → JW D (d + 1) mX27_check 33 [some (vR 21 r0), none, some (vR 52 r2), some (vI x3), none] [] h Q) (w : W_X27_check_33 D d Q K33 r0 r2 x3 h) : JW D (d + 1) mX27_check 33 [some (vR 21 r0), none, some (vR 52 r2), some (vI x3), none] [] h Q := by
  unfold W_X27_check_33 at w
  refine jw_iload_n (pc' := 34) rfl rfl ?_
  refine jw_aload_n (pc' := 35) rfl rfl ?_
  obtain ⟨g_1, w⟩ := w
  refine jw_getI (pc' := 38) (F := 112) rfl rfl rfl rfl g_1 ?_
  refine jw_icmp_ge (tgt := 101) (pc' := 41) rfl rfl (fun c_2 => ?_) (fun c_2 => ?_)
  · replace w := w.1 c_2
    refine jw_aload_n (pc' := 102) rfl rfl ?_
    refine jw_aload_n (pc' := 103) rfl rfl ?_
    refine jw_putR' (pc' := 106) (F := 109) rfl rfl rfl (Or.inr rfl) (Or.inl rfl) rfl rfl rfl g_1 (fun h_3 e_4 => ?_)
    replace w := w h_3 e_4
    refine jw_aload_n (pc' := 107) rfl rfl ?_
    exact jw_areturn rfl rfl rfl rfl rfl w
  · replace w := w.2 c_2
    refine jw_aload_n (pc' := 42) rfl rfl ?_
    refine jw_getR (pc' := 45) (F := 111) (t' := 77) rfl rfl rfl rfl rfl g_1 ?_
    refine jw_iload_n (pc' := 46) rfl rfl ?_
    obtain ⟨g_5, w⟩ := w
    obtain ⟨g_6, w⟩ := w
    refine jw_aald (pc' := 47) (t' := 55) rfl rfl rfl rfl g_5 g_6.ix g_6.2 ?_
    obtain ⟨g_7, w⟩ := w
    refine jw_getR (pc' := 50) (F := 109) (t' := 52) rfl rfl rfl rfl rfl g_7 ?_
    refine jw_astore (pc' := 52) (ls' := [some (vR 21 r0), none, some (vR 52 r2), some (vI x3), some (vR 52 (jfr h 109 (jar h (jfr h 111 r0) (ixn x3))))]) rfl (by decide) rfl ?_
    refine jw_iload_n (pc' := 53) rfl rfl ?_
    refine jw_iconst (pc' := 54) (x := (2 : Int32)) rfl rfl ?_
    refine jw_irem (pc' := 55) rfl (by decide) ?_
    refine jw_if_ne (tgt := 79) (pc' := 58) rfl rfl (fun c_8 => ?_) (fun c_8 => ?_)
    · replace w := w.1 c_8
      exact w_X27_check_79 hK33 w
    · replace w := w.2 c_8
      refine jw_iload_n (pc' := 59) rfl rfl ?_
      refine jw_iconst (pc' := 60) (x := (1 : Int32)) rfl rfl ?_
      refine jw_iadd (pc' := 61) rfl ?_
      refine jw_aload_n (pc' := 62) rfl rfl ?_
      refine jw_getI (pc' := 65) (F := 112) rfl rfl rfl rfl g_1 ?_
      refine jw_icmp_ge (tgt := 79) (pc' := 68) rfl rfl (fun c_9 => ?_) (fun c_9 => ?_)
      · replace w := w.1 c_9
        exact w_X27_check_79 hK33 w
      · replace w := w.2 c_9
        refine jw_aload (pc' := 70) rfl rfl ?_
        refine jw_getsR (pc' := 73) rfl rfl rfl rfl ?_
        refine jw_cV (st := []) (sa := [vR 52 (jfr h 109 (jar h (jfr h 111 r0) (ixn x3))), vR 52 (jcs D 357)]) okX24_need rfl rfl rfl rfl rfl rfl (jstp_staticUp (sa := [vR 52 (jfr h 109 (jar h (jfr h 111 r0) (ixn x3))), vR 52 (jcs D 357)]) (st := []) rfl (lw_g (jtb_mem (c := 10) (i := 136) rfl) rfl) (lw_g (jtb_mem (c := 10) (i := 137) rfl) rfl) rfl sX24_need okX24_need rfl rfl) w (fun h_10 _ _ w => ?_)
        refine jw_goto (pc' := 95) rfl rfl ?_
        refine jw_gen (ls' := [some (vR 21 r0), none, some (vR 52 r2), some (vI x3), none]) (st' := []) (And.intro (Or.inl rfl) (And.intro (Or.inl rfl) (And.intro (Or.inl rfl) (trivial)))) (trivial) ?_
        exact w_X27_check_95 hK33 w
def L_X27_check_33 (D : JD) (d : Nat) (Q : JO → JH → Prop) : Nat → Nat → Nat → Int32 → JH → Prop
  | 0 => fun _ _ _ _ => False
  | n + 1 => fun r0 r2 x3 h => W_X27_check_33 D d Q (L_X27_check_33 D d Q n) r0 r2 x3 h
theorem l_X27_check_33 {D : JD} {d : Nat} {Q : JO → JH → Prop} : ∀ (n : Nat) (r0 : Nat) (r2 : Nat) (x3 : Int32) (h : JH), L_X27_check_33 D d Q n r0 r2 x3 h → JW D (d + 1) mX27_check 33 [some (vR 21 r0), none, some (vR 52 r2), some (vI x3), none] [] h Q := by
  intro n
  induction n with
  | zero => intro _ _ _ _ w; exact w.elim
  | succ n ih => intro _ _ _ h w; exact w_X27_check_33 ih w
def W_X27_check_20 (D : JD) (d : Nat) (Q : JO → JH → Prop) (K2 : Nat → Nat → Int32 → JH → Prop) (r0 : Nat) (r1 : Nat) (x2 : Int32) (q0 : Nat) (h : JH) : Prop :=
  K2 r0 r1 (x2 + (1 : Int32)) h
theorem w_X27_check_20 {D : JD} {d : Nat} {Q : JO → JH → Prop} {K2 : Nat → Nat → Int32 → JH → Prop} {r0 : Nat} {r1 : Nat} {x2 : Int32} {q0 : Nat} {h : JH} (hK2 : ∀ (r0 : Nat) (r1 : Nat) (x2 : Int32) (h : JH), K2 r0 r1 x2 h → JW D (d + 1) mX27_check 2 [some (vR 21 r0), some (vR 6 r1), some (vI x2), none, none] [] h Q) (w : W_X27_check_20 D d Q K2 r0 r1 x2 q0 h) : JW D (d + 1) mX27_check 20 [some (vR 21 r0), some (vR 6 r1), some (vI x2), none, none] [vR 52 q0] h Q := by
  unfold W_X27_check_20 at w
  refine jw_pop (pc' := 21) rfl rfl ?_
  refine jw_iinc (pc' := 24) (y := x2 + (1 : Int32)) (ls' := [some (vR 21 r0), some (vR 6 r1), some (vI (x2 + (1 : Int32))), none, none]) rfl (by decide) rfl rfl rfl ?_
  refine jw_goto (pc' := 2) rfl rfl ?_
  exact hK2 _ _ _ _ w
def W_X27_check_2 (D : JD) (d : Nat) (Q : JO → JH → Prop) (K2 : Nat → Nat → Int32 → JH → Prop) (r0 : Nat) (r1 : Nat) (x2 : Int32) (h : JH) : Prop :=
  r0 ≠ 0 ∧ (((jfi h 112 r0) ≤ x2 → ∃ n, L_X27_check_33 D d Q n r0 (jcs D 345) (0 : Int32) h) ∧ (¬ (jfi h 112 r0) ≤ x2 → (jfr h 111 r0) ≠ 0 ∧ jin x2 (jln h (jfr h 111 r0)) ∧ ((jar h (jfr h 111 r0) (ixn x2)) ≠ 0 ∧ (v55_check D d (jar h (jfr h 111 r0) (ixn x2)) r1 h (pR D h 52 (fun v_8 h_6 => W_X27_check_20 D d Q K2 r0 r1 x2 v_8 h_6) (jth Q))))))
theorem w_X27_check_2 {D : JD} {d : Nat} {Q : JO → JH → Prop} {K2 : Nat → Nat → Int32 → JH → Prop} {r0 : Nat} {r1 : Nat} {x2 : Int32} {h : JH} (hK2 : ∀ (r0 : Nat) (r1 : Nat) (x2 : Int32) (h : JH), K2 r0 r1 x2 h → JW D (d + 1) mX27_check 2 [some (vR 21 r0), some (vR 6 r1), some (vI x2), none, none] [] h Q) (w : W_X27_check_2 D d Q K2 r0 r1 x2 h) : JW D (d + 1) mX27_check 2 [some (vR 21 r0), some (vR 6 r1), some (vI x2), none, none] [] h Q := by
  unfold W_X27_check_2 at w
  refine jw_iload_n (pc' := 3) rfl rfl ?_
  refine jw_aload_n (pc' := 4) rfl rfl ?_
  obtain ⟨g_1, w⟩ := w
  refine jw_getI (pc' := 7) (F := 112) rfl rfl rfl rfl g_1 ?_
  refine jw_icmp_ge (tgt := 27) (pc' := 10) rfl rfl (fun c_2 => ?_) (fun c_2 => ?_)
  · replace w := w.1 c_2
    refine jw_getsR (pc' := 30) rfl rfl rfl rfl ?_
    refine jw_astore_n (pc' := 31) (ls' := [some (vR 21 r0), some (vR 6 r1), some (vR 52 (jcs D 345)), none, none]) rfl (by decide) rfl ?_
    refine jw_iconst (pc' := 32) (x := (0 : Int32)) rfl rfl ?_
    refine jw_istore_n (pc' := 33) (ls' := [some (vR 21 r0), some (vR 6 r1), some (vR 52 (jcs D 345)), some (vI (0 : Int32)), none]) rfl (by decide) rfl ?_
    refine jw_gen (ls' := [some (vR 21 r0), none, some (vR 52 (jcs D 345)), some (vI (0 : Int32)), none]) (st' := []) (And.intro (Or.inl rfl) (And.intro (Or.inl rfl) (And.intro (Or.inl rfl) (trivial)))) (trivial) ?_
    obtain ⟨n, w⟩ := w
    exact l_X27_check_33 n _ _ _ _ w
  · replace w := w.2 c_2
    refine jw_aload_n (pc' := 11) rfl rfl ?_
    refine jw_getR (pc' := 14) (F := 111) (t' := 77) rfl rfl rfl rfl rfl g_1 ?_
    refine jw_iload_n (pc' := 15) rfl rfl ?_
    obtain ⟨g_3, w⟩ := w
    obtain ⟨g_4, w⟩ := w
    refine jw_aald (pc' := 16) (t' := 55) rfl rfl rfl rfl g_3 g_4.ix g_4.2 ?_
    refine jw_aload_n (pc' := 17) rfl rfl ?_
    obtain ⟨g_5, w⟩ := w
    refine JW.inv (fun hI => JW.oks (fun ho => ?_))
    have hkd := und55.k hI (ho (vR 55 (jar h (jfr h 111 r0) (ixn x2))) (by simp)) g_5
    simp only [List.mem_cons, List.not_mem_nil, or_false] at hkd
    clear ho hI
    rcases hkd with e_9 | e_9 | e_9 | e_9 | e_9 | e_9 | e_9 | e_9 | e_9 | e_9
    · refine jw_gen (ls' := _) (st' := [vR 6 r1, vR 20 (jar h (jfr h 111 r0) (ixn x2))]) (jgl_rf _ _) (And.intro (Or.inl rfl) (And.intro (Or.inr ⟨_, _, _, rfl, rfl, Or.inr (Or.inr (by rw [e_9]; rfl))⟩) (jgs_rf _ _))) ?_
      refine jw_cR (st := []) (sa := [vR 20 (jar h (jfr h 111 r0) (ixn x2)), vR 6 r1]) okX25_check rfl rfl rfl rfl rfl rfl (jstp_up (sa := [vR 6 r1]) (st := []) rfl (lw_g (jtb_mem (c := 10) (i := 64) rfl) rfl) um18 okX25_check g_5 (fun _ _ => by rw [e_9]; exact ⟨rfl, rfl⟩) rfl rfl) (w.1 e_9) (fun v_8 h_6 _ _ _ w => ?_)
      exact w_X27_check_20 hK2 w
    · refine jw_gen (ls' := _) (st' := [vR 6 r1, vR 21 (jar h (jfr h 111 r0) (ixn x2))]) (jgl_rf _ _) (And.intro (Or.inl rfl) (And.intro (Or.inr ⟨_, _, _, rfl, rfl, Or.inr (Or.inr (by rw [e_9]; rfl))⟩) (jgs_rf _ _))) ?_
      refine jw_cR (st := []) (sa := [vR 21 (jar h (jfr h 111 r0) (ixn x2)), vR 6 r1]) okX27_check rfl rfl rfl rfl rfl rfl (jstp_up (sa := [vR 6 r1]) (st := []) rfl (lw_g (jtb_mem (c := 10) (i := 64) rfl) rfl) um19 okX27_check g_5 (fun _ _ => by rw [e_9]; exact ⟨rfl, rfl⟩) rfl rfl) (w.2.1 e_9) (fun v_8 h_6 _ _ _ w => ?_)
      exact w_X27_check_20 hK2 w
    · refine jw_gen (ls' := _) (st' := [vR 6 r1, vR 22 (jar h (jfr h 111 r0) (ixn x2))]) (jgl_rf _ _) (And.intro (Or.inl rfl) (And.intro (Or.inr ⟨_, _, _, rfl, rfl, Or.inr (Or.inr (by rw [e_9]; rfl))⟩) (jgs_rf _ _))) ?_
      refine jw_cR (st := []) (sa := [vR 22 (jar h (jfr h 111 r0) (ixn x2)), vR 6 r1]) okX28_check rfl rfl rfl rfl rfl rfl (jstp_up (sa := [vR 6 r1]) (st := []) rfl (lw_g (jtb_mem (c := 10) (i := 64) rfl) rfl) um20 okX28_check g_5 (fun _ _ => by rw [e_9]; exact ⟨rfl, rfl⟩) rfl rfl) (w.2.2.1 e_9) (fun v_8 h_6 _ _ _ w => ?_)
      exact w_X27_check_20 hK2 w
    · refine jw_gen (ls' := _) (st' := [vR 6 r1, vR 23 (jar h (jfr h 111 r0) (ixn x2))]) (jgl_rf _ _) (And.intro (Or.inl rfl) (And.intro (Or.inr ⟨_, _, _, rfl, rfl, Or.inr (Or.inr (by rw [e_9]; rfl))⟩) (jgs_rf _ _))) ?_
      refine jw_cR (st := []) (sa := [vR 23 (jar h (jfr h 111 r0) (ixn x2)), vR 6 r1]) okX29_check rfl rfl rfl rfl rfl rfl (jstp_up (sa := [vR 6 r1]) (st := []) rfl (lw_g (jtb_mem (c := 10) (i := 64) rfl) rfl) um21 okX29_check g_5 (fun _ _ => by rw [e_9]; exact ⟨rfl, rfl⟩) rfl rfl) (w.2.2.2.1 e_9) (fun v_8 h_6 _ _ _ w => ?_)
      exact w_X27_check_20 hK2 w
    · refine jw_gen (ls' := _) (st' := [vR 6 r1, vR 24 (jar h (jfr h 111 r0) (ixn x2))]) (jgl_rf _ _) (And.intro (Or.inl rfl) (And.intro (Or.inr ⟨_, _, _, rfl, rfl, Or.inr (Or.inr (by rw [e_9]; rfl))⟩) (jgs_rf _ _))) ?_
      refine jw_cR (st := []) (sa := [vR 24 (jar h (jfr h 111 r0) (ixn x2)), vR 6 r1]) okX30_check rfl rfl rfl rfl rfl rfl (jstp_up (sa := [vR 6 r1]) (st := []) rfl (lw_g (jtb_mem (c := 10) (i := 64) rfl) rfl) um22 okX30_check g_5 (fun _ _ => by rw [e_9]; exact ⟨rfl, rfl⟩) rfl rfl) (w.2.2.2.2.1 e_9) (fun v_8 h_6 _ _ _ w => ?_)
      exact w_X27_check_20 hK2 w
    · refine jw_gen (ls' := _) (st' := [vR 6 r1, vR 25 (jar h (jfr h 111 r0) (ixn x2))]) (jgl_rf _ _) (And.intro (Or.inl rfl) (And.intro (Or.inr ⟨_, _, _, rfl, rfl, Or.inr (Or.inr (by rw [e_9]; rfl))⟩) (jgs_rf _ _))) ?_
      refine jw_cR (st := []) (sa := [vR 25 (jar h (jfr h 111 r0) (ixn x2)), vR 6 r1]) okX31_check rfl rfl rfl rfl rfl rfl (jstp_up (sa := [vR 6 r1]) (st := []) rfl (lw_g (jtb_mem (c := 10) (i := 64) rfl) rfl) um23 okX31_check g_5 (fun _ _ => by rw [e_9]; exact ⟨rfl, rfl⟩) rfl rfl) (w.2.2.2.2.2.1 e_9) (fun v_8 h_6 _ _ _ w => ?_)
      exact w_X27_check_20 hK2 w
    · refine jw_gen (ls' := _) (st' := [vR 6 r1, vR 26 (jar h (jfr h 111 r0) (ixn x2))]) (jgl_rf _ _) (And.intro (Or.inl rfl) (And.intro (Or.inr ⟨_, _, _, rfl, rfl, Or.inr (Or.inr (by rw [e_9]; rfl))⟩) (jgs_rf _ _))) ?_
      refine jw_cR (st := []) (sa := [vR 26 (jar h (jfr h 111 r0) (ixn x2)), vR 6 r1]) okX32_check rfl rfl rfl rfl rfl rfl (jstp_up (sa := [vR 6 r1]) (st := []) rfl (lw_g (jtb_mem (c := 10) (i := 64) rfl) rfl) um24 okX32_check g_5 (fun _ _ => by rw [e_9]; exact ⟨rfl, rfl⟩) rfl rfl) (w.2.2.2.2.2.2.1 e_9) (fun v_8 h_6 _ _ _ w => ?_)
      exact w_X27_check_20 hK2 w
    · refine jw_gen (ls' := _) (st' := [vR 6 r1, vR 27 (jar h (jfr h 111 r0) (ixn x2))]) (jgl_rf _ _) (And.intro (Or.inl rfl) (And.intro (Or.inr ⟨_, _, _, rfl, rfl, Or.inr (Or.inr (by rw [e_9]; rfl))⟩) (jgs_rf _ _))) ?_
      refine jw_cR (st := []) (sa := [vR 27 (jar h (jfr h 111 r0) (ixn x2)), vR 6 r1]) okX33_check rfl rfl rfl rfl rfl rfl (jstp_up (sa := [vR 6 r1]) (st := []) rfl (lw_g (jtb_mem (c := 10) (i := 64) rfl) rfl) um25 okX33_check g_5 (fun _ _ => by rw [e_9]; exact ⟨rfl, rfl⟩) rfl rfl) (w.2.2.2.2.2.2.2.1 e_9) (fun v_8 h_6 _ _ _ w => ?_)
      exact w_X27_check_20 hK2 w
    · refine jw_gen (ls' := _) (st' := [vR 6 r1, vR 28 (jar h (jfr h 111 r0) (ixn x2))]) (jgl_rf _ _) (And.intro (Or.inl rfl) (And.intro (Or.inr ⟨_, _, _, rfl, rfl, Or.inr (Or.inr (by rw [e_9]; rfl))⟩) (jgs_rf _ _))) ?_
      refine jw_cR (st := []) (sa := [vR 28 (jar h (jfr h 111 r0) (ixn x2)), vR 6 r1]) okX34_check rfl rfl rfl rfl rfl rfl (jstp_up (sa := [vR 6 r1]) (st := []) rfl (lw_g (jtb_mem (c := 10) (i := 64) rfl) rfl) um26 okX34_check g_5 (fun _ _ => by rw [e_9]; exact ⟨rfl, rfl⟩) rfl rfl) (w.2.2.2.2.2.2.2.2.1 e_9) (fun v_8 h_6 _ _ _ w => ?_)
      exact w_X27_check_20 hK2 w
    · refine jw_gen (ls' := _) (st' := [vR 6 r1, vR 29 (jar h (jfr h 111 r0) (ixn x2))]) (jgl_rf _ _) (And.intro (Or.inl rfl) (And.intro (Or.inr ⟨_, _, _, rfl, rfl, Or.inr (Or.inr (by rw [e_9]; rfl))⟩) (jgs_rf _ _))) ?_
      refine jw_cR (st := []) (sa := [vR 29 (jar h (jfr h 111 r0) (ixn x2)), vR 6 r1]) okX35_check rfl rfl rfl rfl rfl rfl (jstp_up (sa := [vR 6 r1]) (st := []) rfl (lw_g (jtb_mem (c := 10) (i := 64) rfl) rfl) um27 okX35_check g_5 (fun _ _ => by rw [e_9]; exact ⟨rfl, rfl⟩) rfl rfl) (w.2.2.2.2.2.2.2.2.2 e_9) (fun v_8 h_6 _ _ _ w => ?_)
      exact w_X27_check_20 hK2 w
def L_X27_check_2 (D : JD) (d : Nat) (Q : JO → JH → Prop) : Nat → Nat → Nat → Int32 → JH → Prop
  | 0 => fun _ _ _ _ => False
  | n + 1 => fun r0 r1 x2 h => W_X27_check_2 D d Q (L_X27_check_2 D d Q n) r0 r1 x2 h
theorem l_X27_check_2 {D : JD} {d : Nat} {Q : JO → JH → Prop} : ∀ (n : Nat) (r0 : Nat) (r1 : Nat) (x2 : Int32) (h : JH), L_X27_check_2 D d Q n r0 r1 x2 h → JW D (d + 1) mX27_check 2 [some (vR 21 r0), some (vR 6 r1), some (vI x2), none, none] [] h Q := by
  intro n
  induction n with
  | zero => intro _ _ _ _ w; exact w.elim
  | succ n ih => intro _ _ _ h w; exact w_X27_check_2 ih w
def W_X27_check_0 (D : JD) (d : Nat) (Q : JO → JH → Prop) (r0 : Nat) (r1 : Nat) (h : JH) : Prop :=
  ∃ n, L_X27_check_2 D d Q n r0 r1 (0 : Int32) h
theorem w_X27_check_0 {D : JD} {d : Nat} {Q : JO → JH → Prop} {r0 : Nat} {r1 : Nat} {h : JH} (w : W_X27_check_0 D d Q r0 r1 h) : JW D (d + 1) mX27_check 0 [some (vR 21 r0), some (vR 6 r1), none, none, none] [] h Q := by
  unfold W_X27_check_0 at w
  refine jw_iconst (pc' := 1) (x := (0 : Int32)) rfl rfl ?_
  refine jw_istore_n (pc' := 2) (ls' := [some (vR 21 r0), some (vR 6 r1), some (vI (0 : Int32)), none, none]) rfl (by decide) rfl ?_
  obtain ⟨n, w⟩ := w
  exact l_X27_check_2 n _ _ _ _ w
def T_X27_check (D : JD) (d : Nat) (Q : JO → JH → Prop) (r0 : Nat) (r1 : Nat) (h : JH) : Prop := W_X27_check_0 D d Q r0 r1 h
theorem t_X27_check {D : JD} {d : Nat} {Q : JO → JH → Prop} {r0 : Nat} {r1 : Nat} {h : JH} (w : T_X27_check D d Q r0 r1 h) : cX27_check D (d + 1) r0 r1 h Q := by
  unfold T_X27_check at w
  unfold cX27_check
  exact w_X27_check_0 w
def W_X27_like_20 (D : JD) (d : Nat) (Q : JO → JH → Prop) (s0 : Int32) (h : JH) : Prop :=
  jbo s0 ∧ (Q (.inl (some (vI s0))) h)
theorem w_X27_like_20 {D : JD} {d : Nat} {Q : JO → JH → Prop} {s0 : Int32} {h : JH} (w : W_X27_like_20 D d Q s0 h) : JW D (d + 1) mX27_like 20 [none, none] [vI s0] h Q := by
  unfold W_X27_like_20 at w
  obtain ⟨g_1, w⟩ := w
  exact jw_ireturn rfl rfl (g_1.nr) w
def W_X27_like_19 (D : JD) (d : Nat) (Q : JO → JH → Prop) (h : JH) : Prop :=
  W_X27_like_20 D d Q (0 : Int32) h
theorem w_X27_like_19 {D : JD} {d : Nat} {Q : JO → JH → Prop} {h : JH} (w : W_X27_like_19 D d Q h) : JW D (d + 1) mX27_like 19 [none, none] [] h Q := by
  unfold W_X27_like_19 at w
  refine jw_iconst (pc' := 20) (x := (0 : Int32)) rfl rfl ?_
  exact w_X27_like_20 w
def W_X27_like_0 (D : JD) (d : Nat) (Q : JO → JH → Prop) (r0 : Nat) (r1 : Nat) (h : JH) : Prop :=
  ((r1 ≠ 0 ∧ jkd h r1 = 21) → r0 ≠ 0 ∧ (cX24_likeParts D d r0 r1 h (pI D h (fun v_6 h_4 => (v_6 = 0 → W_X27_like_19 D d Q h_4) ∧ (¬ v_6 = 0 → W_X27_like_20 D d Q (1 : Int32) h_4)) (jth Q)))) ∧ (¬ (r1 ≠ 0 ∧ jkd h r1 = 21) → W_X27_like_19 D d Q h)
theorem w_X27_like_0 {D : JD} {d : Nat} {Q : JO → JH → Prop} {r0 : Nat} {r1 : Nat} {h : JH} (w : W_X27_like_0 D d Q r0 r1 h) : JW D (d + 1) mX27_like 0 [some (vR 21 r0), some (vR 55 r1)] [] h Q := by
  unfold W_X27_like_0 at w
  refine jw_aload_n (pc' := 1) rfl rfl ?_
  refine jw_inst (pc' := 4) (t := 55) (kt := 21) rfl rfl rfl rfl (by decide +kernel) (fun c_1 => ?_) (fun c_1 => ?_)
  · replace w := w.1 c_1
    refine jw_if_eq (tgt := 19) (pc' := 7) rfl rfl (fun c_2 => absurd c_2 (by decide)) (fun _ => ?_)
    refine jw_aload_n (pc' := 8) rfl rfl ?_
    refine jw_aload_n (pc' := 9) rfl rfl ?_
    obtain ⟨g_3, w⟩ := w
    refine jw_cI (st := []) (sa := [vR 21 r0, vR 55 r1]) okX24_likeParts rfl rfl rfl rfl rfl rfl (jstp_up (sa := [vR 55 r1]) (st := []) rfl (lw_g (jtb_mem (c := 11) (i := 49) rfl) rfl) um98 okX24_likeParts g_3 (one21.k g_3) rfl rfl) w (fun v_6 h_4 _ _ w => ?_)
    refine jw_if_eq (tgt := 19) (pc' := 15) rfl rfl (fun c_7 => ?_) (fun c_7 => ?_)
    · replace w := w.1 c_7
      refine jw_gen (ls' := [none, none]) (st' := []) (trivial) (trivial) ?_
      exact w_X27_like_19 w
    · replace w := w.2 c_7
      refine jw_iconst (pc' := 16) (x := (1 : Int32)) rfl rfl ?_
      refine jw_goto (pc' := 20) rfl rfl ?_
      refine jw_gen (ls' := [none, none]) (st' := [vI (1 : Int32)]) (trivial) (And.intro (Or.inl rfl) (trivial)) ?_
      exact w_X27_like_20 w
  · replace w := w.2 c_1
    refine jw_if_eq (tgt := 19) (pc' := 7) rfl rfl (fun _ => ?_) (fun c_8 => absurd c_8 (by decide))
    refine jw_gen (ls' := [none, none]) (st' := []) (trivial) (trivial) ?_
    exact w_X27_like_19 w
def T_X27_like (D : JD) (d : Nat) (Q : JO → JH → Prop) (r0 : Nat) (r1 : Nat) (h : JH) : Prop := W_X27_like_0 D d Q r0 r1 h
theorem t_X27_like {D : JD} {d : Nat} {Q : JO → JH → Prop} {r0 : Nat} {r1 : Nat} {h : JH} (w : T_X27_like D d Q r0 r1 h) : cX27_like D (d + 1) r0 r1 h Q := by
  unfold T_X27_like at w
  unfold cX27_like
  exact w_X27_like_0 w
def W_X27_title_0 (D : JD) (d : Nat) (Q : JO → JH → Prop) (h : JH) : Prop :=
  Q (.inl (some (vR 64 (jcs D 177)))) h
theorem w_X27_title_0 {D : JD} {d : Nat} {Q : JO → JH → Prop} {h : JH} (w : W_X27_title_0 D d Q h) : JW D (d + 1) mX27_title 0 [none] [] h Q := by
  unfold W_X27_title_0 at w
  refine jw_ldcS (pc' := 2) rfl rfl rfl rfl ?_
  exact jw_areturn rfl rfl rfl rfl rfl w
def T_X27_title (D : JD) (d : Nat) (Q : JO → JH → Prop) (r0 : Nat) (h : JH) : Prop := W_X27_title_0 D d Q h
theorem t_X27_title {D : JD} {d : Nat} {Q : JO → JH → Prop} {r0 : Nat} {h : JH} (w : T_X27_title D d Q r0 h) : cX27_title D (d + 1) r0 h Q := by
  unfold T_X27_title at w
  unfold cX27_title
  refine jw_gen (ls' := [none]) (st' := []) (trivial) (trivial) ?_
  exact w_X27_title_0 w
def W_X27_at_96 (D : JD) (d : Nat) (Q : JO → JH → Prop) (q0 : Nat) (h : JH) : Prop :=
  Q (.inl (some (vR 8 q0))) h
theorem w_X27_at_96 {D : JD} {d : Nat} {Q : JO → JH → Prop} {q0 : Nat} {h : JH} (w : W_X27_at_96 D d Q q0 h) : JW D (d + 1) mX27_at 96 [none, none, none] [vR 8 q0] h Q := by
  unfold W_X27_at_96 at w
  exact jw_areturn rfl rfl rfl rfl rfl w
def W_X27_at_83 (D : JD) (d : Nat) (Q : JO → JH → Prop) (q0 : Nat) (q1 : Nat) (h : JH) : Prop :=
  q0 ≠ 0 ∧ (cX14_copy D d q0 q1 h (pR D h 8 (fun v_4 h_2 => W_X27_at_96 D d Q v_4 h_2) (jth Q)))
theorem w_X27_at_83 {D : JD} {d : Nat} {Q : JO → JH → Prop} {q0 : Nat} {q1 : Nat} {h : JH} (w : W_X27_at_83 D d Q q0 q1 h) : JW D (d + 1) mX27_at 83 [none, none, none] [vR 8 q1, vR 98 q0] h Q := by
  unfold W_X27_at_83 at w
  obtain ⟨g_1, w⟩ := w
  refine jw_cR (st := []) (sa := [vR 98 q0, vR 8 q1]) okX14_copy rfl rfl rfl rfl rfl rfl (jstp_virtual (sa := [vR 8 q1]) (st := []) (k := 0) rfl rfl sX14_copy okX14_copy g_1 (one98.k g_1) rfl rfl) w (fun v_4 h_2 _ _ _ w => ?_)
  refine jw_goto (pc' := 96) rfl rfl ?_
  exact w_X27_at_96 w
def W_X27_at_44 (D : JD) (d : Nat) (Q : JO → JH → Prop) (q0 : Nat) (q1 : Nat) (h : JH) : Prop :=
  q0 ≠ 0 ∧ (cX14_copy D d q0 q1 h (pR D h 8 (fun v_4 h_2 => Q (.inl (some (vR 8 v_4))) h_2) (jth Q)))
theorem w_X27_at_44 {D : JD} {d : Nat} {Q : JO → JH → Prop} {q0 : Nat} {q1 : Nat} {h : JH} (w : W_X27_at_44 D d Q q0 q1 h) : JW D (d + 1) mX27_at 44 [none, none, none] [vR 8 q1, vR 98 q0] h Q := by
  unfold W_X27_at_44 at w
  obtain ⟨g_1, w⟩ := w
  refine jw_cR (st := []) (sa := [vR 98 q0, vR 8 q1]) okX14_copy rfl rfl rfl rfl rfl rfl (jstp_virtual (sa := [vR 8 q1]) (st := []) (k := 0) rfl rfl sX14_copy okX14_copy g_1 (one98.k g_1) rfl rfl) w (fun v_4 h_2 _ _ _ w => ?_)
  exact jw_areturn rfl rfl rfl rfl rfl w
def W_X27_at_22 (D : JD) (d : Nat) (Q : JO → JH → Prop) (K2 : Nat → Nat → Int32 → JH → Prop) (r0 : Nat) (r1 : Nat) (x2 : Int32) (q0 : Nat) (h : JH) : Prop :=
  q0 ≠ 0 ∧ (cX14_isTrue D d q0 h (pI D h (fun v_4 h_2 => (v_4 = 0 → K2 r0 r1 (x2 + (2 : Int32)) h_2) ∧ (¬ v_4 = 0 → r0 ≠ 0 ∧ ((jfr h_2 111 r0) ≠ 0 ∧ jin (x2 + (1 : Int32)) (jln h_2 (jfr h_2 111 r0)) ∧ ((jar h_2 (jfr h_2 111 r0) (ixn (x2 + (1 : Int32)))) ≠ 0 ∧ (v55_at D d (jar h_2 (jfr h_2 111 r0) (ixn (x2 + (1 : Int32)))) r1 h_2 (pR D h_2 8 (fun v_12 h_10 => W_X27_at_44 D d Q (jfr h_2 108 r0) v_12 h_10) (jth Q))))))) (jth Q)))
theorem w_X27_at_22 {D : JD} {d : Nat} {Q : JO → JH → Prop} {K2 : Nat → Nat → Int32 → JH → Prop} {r0 : Nat} {r1 : Nat} {x2 : Int32} {q0 : Nat} {h : JH} (hK2 : ∀ (r0 : Nat) (r1 : Nat) (x2 : Int32) (h : JH), K2 r0 r1 x2 h → JW D (d + 1) mX27_at 2 [some (vR 21 r0), some (vR 6 r1), some (vI x2)] [] h Q) (w : W_X27_at_22 D d Q K2 r0 r1 x2 q0 h) : JW D (d + 1) mX27_at 22 [some (vR 21 r0), some (vR 6 r1), some (vI x2)] [vR 8 q0] h Q := by
  unfold W_X27_at_22 at w
  obtain ⟨g_1, w⟩ := w
  refine jw_cI (st := []) (sa := [vR 8 q0]) okX14_isTrue rfl rfl rfl rfl rfl rfl (jstp_virtual (sa := []) (st := []) (k := 0) rfl rfl sX14_isTrue okX14_isTrue g_1 (one8.k g_1) rfl rfl) w (fun v_4 h_2 _ _ w => ?_)
  refine jw_if_eq (tgt := 48) (pc' := 28) rfl rfl (fun c_5 => ?_) (fun c_5 => ?_)
  · replace w := w.1 c_5
    refine jw_iinc (pc' := 51) (y := x2 + (2 : Int32)) (ls' := [some (vR 21 r0), some (vR 6 r1), some (vI (x2 + (2 : Int32)))]) rfl (by decide) rfl rfl rfl ?_
    refine jw_goto (pc' := 2) rfl rfl ?_
    exact hK2 _ _ _ _ w
  · replace w := w.2 c_5
    refine jw_aload_n (pc' := 29) rfl rfl ?_
    obtain ⟨g_6, w⟩ := w
    refine jw_getR (pc' := 32) (F := 108) (t' := 98) rfl rfl rfl rfl rfl g_6 ?_
    refine jw_aload_n (pc' := 33) rfl rfl ?_
    refine jw_getR (pc' := 36) (F := 111) (t' := 77) rfl rfl rfl rfl rfl g_6 ?_
    refine jw_iload_n (pc' := 37) rfl rfl ?_
    refine jw_iconst (pc' := 38) (x := (1 : Int32)) rfl rfl ?_
    refine jw_iadd (pc' := 39) rfl ?_
    obtain ⟨g_7, w⟩ := w
    obtain ⟨g_8, w⟩ := w
    refine jw_aald (pc' := 40) (t' := 55) rfl rfl rfl rfl g_7 g_8.ix g_8.2 ?_
    refine jw_aload_n (pc' := 41) rfl rfl ?_
    obtain ⟨g_9, w⟩ := w
    refine JW.inv (fun hI => JW.oks (fun ho => ?_))
    have hkd := und55.k hI (ho (vR 55 (jar h_2 (jfr h_2 111 r0) (ixn (x2 + (1 : Int32))))) (by simp)) g_9
    simp only [List.mem_cons, List.not_mem_nil, or_false] at hkd
    clear ho hI
    rcases hkd with e_13 | e_13 | e_13 | e_13 | e_13 | e_13 | e_13 | e_13 | e_13 | e_13
    · refine jw_gen (ls' := _) (st' := [vR 6 r1, vR 20 (jar h_2 (jfr h_2 111 r0) (ixn (x2 + (1 : Int32)))), vR 98 (jfr h_2 108 r0)]) (jgl_rf _ _) (And.intro (Or.inl rfl) (And.intro (Or.inr ⟨_, _, _, rfl, rfl, Or.inr (Or.inr (by rw [e_13]; rfl))⟩) (jgs_rf _ _))) ?_
      refine jw_cR (st := [vR 98 (jfr h_2 108 r0)]) (sa := [vR 20 (jar h_2 (jfr h_2 111 r0) (ixn (x2 + (1 : Int32)))), vR 6 r1]) okX25_at rfl rfl rfl rfl rfl rfl (jstp_up (sa := [vR 6 r1]) (st := [vR 98 (jfr h_2 108 r0)]) rfl (lw_g (jtb_mem (c := 12) (i := 32) rfl) rfl) um28 okX25_at g_9 (fun _ _ => by rw [e_13]; exact ⟨rfl, rfl⟩) rfl rfl) (w.1 e_13) (fun v_12 h_10 _ _ _ w => ?_)
      refine jw_gen (ls' := [none, none, none]) (st' := [vR 8 v_12, vR 98 (jfr h_2 108 r0)]) (trivial) (And.intro (Or.inl rfl) (And.intro (Or.inl rfl) (trivial))) ?_
      exact w_X27_at_44 w
    · refine jw_gen (ls' := _) (st' := [vR 6 r1, vR 21 (jar h_2 (jfr h_2 111 r0) (ixn (x2 + (1 : Int32)))), vR 98 (jfr h_2 108 r0)]) (jgl_rf _ _) (And.intro (Or.inl rfl) (And.intro (Or.inr ⟨_, _, _, rfl, rfl, Or.inr (Or.inr (by rw [e_13]; rfl))⟩) (jgs_rf _ _))) ?_
      refine jw_cR (st := [vR 98 (jfr h_2 108 r0)]) (sa := [vR 21 (jar h_2 (jfr h_2 111 r0) (ixn (x2 + (1 : Int32)))), vR 6 r1]) okX27_at rfl rfl rfl rfl rfl rfl (jstp_up (sa := [vR 6 r1]) (st := [vR 98 (jfr h_2 108 r0)]) rfl (lw_g (jtb_mem (c := 12) (i := 32) rfl) rfl) um29 okX27_at g_9 (fun _ _ => by rw [e_13]; exact ⟨rfl, rfl⟩) rfl rfl) (w.2.1 e_13) (fun v_12 h_10 _ _ _ w => ?_)
      refine jw_gen (ls' := [none, none, none]) (st' := [vR 8 v_12, vR 98 (jfr h_2 108 r0)]) (trivial) (And.intro (Or.inl rfl) (And.intro (Or.inl rfl) (trivial))) ?_
      exact w_X27_at_44 w
    · refine jw_gen (ls' := _) (st' := [vR 6 r1, vR 22 (jar h_2 (jfr h_2 111 r0) (ixn (x2 + (1 : Int32)))), vR 98 (jfr h_2 108 r0)]) (jgl_rf _ _) (And.intro (Or.inl rfl) (And.intro (Or.inr ⟨_, _, _, rfl, rfl, Or.inr (Or.inr (by rw [e_13]; rfl))⟩) (jgs_rf _ _))) ?_
      refine jw_cR (st := [vR 98 (jfr h_2 108 r0)]) (sa := [vR 22 (jar h_2 (jfr h_2 111 r0) (ixn (x2 + (1 : Int32)))), vR 6 r1]) okX28_at rfl rfl rfl rfl rfl rfl (jstp_up (sa := [vR 6 r1]) (st := [vR 98 (jfr h_2 108 r0)]) rfl (lw_g (jtb_mem (c := 12) (i := 32) rfl) rfl) um30 okX28_at g_9 (fun _ _ => by rw [e_13]; exact ⟨rfl, rfl⟩) rfl rfl) (w.2.2.1 e_13) (fun v_12 h_10 _ _ _ w => ?_)
      refine jw_gen (ls' := [none, none, none]) (st' := [vR 8 v_12, vR 98 (jfr h_2 108 r0)]) (trivial) (And.intro (Or.inl rfl) (And.intro (Or.inl rfl) (trivial))) ?_
      exact w_X27_at_44 w
    · refine jw_gen (ls' := _) (st' := [vR 6 r1, vR 23 (jar h_2 (jfr h_2 111 r0) (ixn (x2 + (1 : Int32)))), vR 98 (jfr h_2 108 r0)]) (jgl_rf _ _) (And.intro (Or.inl rfl) (And.intro (Or.inr ⟨_, _, _, rfl, rfl, Or.inr (Or.inr (by rw [e_13]; rfl))⟩) (jgs_rf _ _))) ?_
      refine jw_cR (st := [vR 98 (jfr h_2 108 r0)]) (sa := [vR 23 (jar h_2 (jfr h_2 111 r0) (ixn (x2 + (1 : Int32)))), vR 6 r1]) okX29_at rfl rfl rfl rfl rfl rfl (jstp_up (sa := [vR 6 r1]) (st := [vR 98 (jfr h_2 108 r0)]) rfl (lw_g (jtb_mem (c := 12) (i := 32) rfl) rfl) um31 okX29_at g_9 (fun _ _ => by rw [e_13]; exact ⟨rfl, rfl⟩) rfl rfl) (w.2.2.2.1 e_13) (fun v_12 h_10 _ _ _ w => ?_)
      refine jw_gen (ls' := [none, none, none]) (st' := [vR 8 v_12, vR 98 (jfr h_2 108 r0)]) (trivial) (And.intro (Or.inl rfl) (And.intro (Or.inl rfl) (trivial))) ?_
      exact w_X27_at_44 w
    · refine jw_gen (ls' := _) (st' := [vR 6 r1, vR 24 (jar h_2 (jfr h_2 111 r0) (ixn (x2 + (1 : Int32)))), vR 98 (jfr h_2 108 r0)]) (jgl_rf _ _) (And.intro (Or.inl rfl) (And.intro (Or.inr ⟨_, _, _, rfl, rfl, Or.inr (Or.inr (by rw [e_13]; rfl))⟩) (jgs_rf _ _))) ?_
      refine jw_cR (st := [vR 98 (jfr h_2 108 r0)]) (sa := [vR 24 (jar h_2 (jfr h_2 111 r0) (ixn (x2 + (1 : Int32)))), vR 6 r1]) okX30_at rfl rfl rfl rfl rfl rfl (jstp_up (sa := [vR 6 r1]) (st := [vR 98 (jfr h_2 108 r0)]) rfl (lw_g (jtb_mem (c := 12) (i := 32) rfl) rfl) um32 okX30_at g_9 (fun _ _ => by rw [e_13]; exact ⟨rfl, rfl⟩) rfl rfl) (w.2.2.2.2.1 e_13) (fun v_12 h_10 _ _ _ w => ?_)
      refine jw_gen (ls' := [none, none, none]) (st' := [vR 8 v_12, vR 98 (jfr h_2 108 r0)]) (trivial) (And.intro (Or.inl rfl) (And.intro (Or.inl rfl) (trivial))) ?_
      exact w_X27_at_44 w
    · refine jw_gen (ls' := _) (st' := [vR 6 r1, vR 25 (jar h_2 (jfr h_2 111 r0) (ixn (x2 + (1 : Int32)))), vR 98 (jfr h_2 108 r0)]) (jgl_rf _ _) (And.intro (Or.inl rfl) (And.intro (Or.inr ⟨_, _, _, rfl, rfl, Or.inr (Or.inr (by rw [e_13]; rfl))⟩) (jgs_rf _ _))) ?_
      refine jw_cR (st := [vR 98 (jfr h_2 108 r0)]) (sa := [vR 25 (jar h_2 (jfr h_2 111 r0) (ixn (x2 + (1 : Int32)))), vR 6 r1]) okX31_at rfl rfl rfl rfl rfl rfl (jstp_up (sa := [vR 6 r1]) (st := [vR 98 (jfr h_2 108 r0)]) rfl (lw_g (jtb_mem (c := 12) (i := 32) rfl) rfl) um33 okX31_at g_9 (fun _ _ => by rw [e_13]; exact ⟨rfl, rfl⟩) rfl rfl) (w.2.2.2.2.2.1 e_13) (fun v_12 h_10 _ _ _ w => ?_)
      refine jw_gen (ls' := [none, none, none]) (st' := [vR 8 v_12, vR 98 (jfr h_2 108 r0)]) (trivial) (And.intro (Or.inl rfl) (And.intro (Or.inl rfl) (trivial))) ?_
      exact w_X27_at_44 w
    · refine jw_gen (ls' := _) (st' := [vR 6 r1, vR 26 (jar h_2 (jfr h_2 111 r0) (ixn (x2 + (1 : Int32)))), vR 98 (jfr h_2 108 r0)]) (jgl_rf _ _) (And.intro (Or.inl rfl) (And.intro (Or.inr ⟨_, _, _, rfl, rfl, Or.inr (Or.inr (by rw [e_13]; rfl))⟩) (jgs_rf _ _))) ?_
      refine jw_cR (st := [vR 98 (jfr h_2 108 r0)]) (sa := [vR 26 (jar h_2 (jfr h_2 111 r0) (ixn (x2 + (1 : Int32)))), vR 6 r1]) okX32_at rfl rfl rfl rfl rfl rfl (jstp_up (sa := [vR 6 r1]) (st := [vR 98 (jfr h_2 108 r0)]) rfl (lw_g (jtb_mem (c := 12) (i := 32) rfl) rfl) um34 okX32_at g_9 (fun _ _ => by rw [e_13]; exact ⟨rfl, rfl⟩) rfl rfl) (w.2.2.2.2.2.2.1 e_13) (fun v_12 h_10 _ _ _ w => ?_)
      refine jw_gen (ls' := [none, none, none]) (st' := [vR 8 v_12, vR 98 (jfr h_2 108 r0)]) (trivial) (And.intro (Or.inl rfl) (And.intro (Or.inl rfl) (trivial))) ?_
      exact w_X27_at_44 w
    · refine jw_gen (ls' := _) (st' := [vR 6 r1, vR 27 (jar h_2 (jfr h_2 111 r0) (ixn (x2 + (1 : Int32)))), vR 98 (jfr h_2 108 r0)]) (jgl_rf _ _) (And.intro (Or.inl rfl) (And.intro (Or.inr ⟨_, _, _, rfl, rfl, Or.inr (Or.inr (by rw [e_13]; rfl))⟩) (jgs_rf _ _))) ?_
      refine jw_cR (st := [vR 98 (jfr h_2 108 r0)]) (sa := [vR 27 (jar h_2 (jfr h_2 111 r0) (ixn (x2 + (1 : Int32)))), vR 6 r1]) okX33_at rfl rfl rfl rfl rfl rfl (jstp_up (sa := [vR 6 r1]) (st := [vR 98 (jfr h_2 108 r0)]) rfl (lw_g (jtb_mem (c := 12) (i := 32) rfl) rfl) um35 okX33_at g_9 (fun _ _ => by rw [e_13]; exact ⟨rfl, rfl⟩) rfl rfl) (w.2.2.2.2.2.2.2.1 e_13) (fun v_12 h_10 _ _ _ w => ?_)
      refine jw_gen (ls' := [none, none, none]) (st' := [vR 8 v_12, vR 98 (jfr h_2 108 r0)]) (trivial) (And.intro (Or.inl rfl) (And.intro (Or.inl rfl) (trivial))) ?_
      exact w_X27_at_44 w
    · refine jw_gen (ls' := _) (st' := [vR 6 r1, vR 28 (jar h_2 (jfr h_2 111 r0) (ixn (x2 + (1 : Int32)))), vR 98 (jfr h_2 108 r0)]) (jgl_rf _ _) (And.intro (Or.inl rfl) (And.intro (Or.inr ⟨_, _, _, rfl, rfl, Or.inr (Or.inr (by rw [e_13]; rfl))⟩) (jgs_rf _ _))) ?_
      refine jw_cR (st := [vR 98 (jfr h_2 108 r0)]) (sa := [vR 28 (jar h_2 (jfr h_2 111 r0) (ixn (x2 + (1 : Int32)))), vR 6 r1]) okX34_at rfl rfl rfl rfl rfl rfl (jstp_up (sa := [vR 6 r1]) (st := [vR 98 (jfr h_2 108 r0)]) rfl (lw_g (jtb_mem (c := 12) (i := 32) rfl) rfl) um36 okX34_at g_9 (fun _ _ => by rw [e_13]; exact ⟨rfl, rfl⟩) rfl rfl) (w.2.2.2.2.2.2.2.2.1 e_13) (fun v_12 h_10 _ _ _ w => ?_)
      refine jw_gen (ls' := [none, none, none]) (st' := [vR 8 v_12, vR 98 (jfr h_2 108 r0)]) (trivial) (And.intro (Or.inl rfl) (And.intro (Or.inl rfl) (trivial))) ?_
      exact w_X27_at_44 w
    · refine jw_gen (ls' := _) (st' := [vR 6 r1, vR 29 (jar h_2 (jfr h_2 111 r0) (ixn (x2 + (1 : Int32)))), vR 98 (jfr h_2 108 r0)]) (jgl_rf _ _) (And.intro (Or.inl rfl) (And.intro (Or.inr ⟨_, _, _, rfl, rfl, Or.inr (Or.inr (by rw [e_13]; rfl))⟩) (jgs_rf _ _))) ?_
      refine jw_cR (st := [vR 98 (jfr h_2 108 r0)]) (sa := [vR 29 (jar h_2 (jfr h_2 111 r0) (ixn (x2 + (1 : Int32)))), vR 6 r1]) okX35_at rfl rfl rfl rfl rfl rfl (jstp_up (sa := [vR 6 r1]) (st := [vR 98 (jfr h_2 108 r0)]) rfl (lw_g (jtb_mem (c := 12) (i := 32) rfl) rfl) um37 okX35_at g_9 (fun _ _ => by rw [e_13]; exact ⟨rfl, rfl⟩) rfl rfl) (w.2.2.2.2.2.2.2.2.2 e_13) (fun v_12 h_10 _ _ _ w => ?_)
      refine jw_gen (ls' := [none, none, none]) (st' := [vR 8 v_12, vR 98 (jfr h_2 108 r0)]) (trivial) (And.intro (Or.inl rfl) (And.intro (Or.inl rfl) (trivial))) ?_
      exact w_X27_at_44 w
def W_X27_at_2 (D : JD) (d : Nat) (Q : JO → JH → Prop) (K2 : Nat → Nat → Int32 → JH → Prop) (r0 : Nat) (r1 : Nat) (x2 : Int32) (h : JH) : Prop :=
  r0 ≠ 0 ∧ (((jfi h 112 r0) ≤ (x2 + (1 : Int32)) → (¬ ((jfi h 112 r0) - (jfi h 112 r0) / (2 : Int32) * (2 : Int32)) = (1 : Int32) → (jfr h 108 r0) ≠ 0 ∧ (cX14_none D d (jfr h 108 r0) h (pR D h 8 (fun v_7 h_5 => W_X27_at_96 D d Q v_7 h_5) (jth Q)))) ∧ (((jfi h 112 r0) - (jfi h 112 r0) / (2 : Int32) * (2 : Int32)) = (1 : Int32) → (jfr h 111 r0) ≠ 0 ∧ jin ((jfi h 112 r0) - (1 : Int32)) (jln h (jfr h 111 r0)) ∧ ((jar h (jfr h 111 r0) (ixn ((jfi h 112 r0) - (1 : Int32)))) ≠ 0 ∧ (v55_at D d (jar h (jfr h 111 r0) (ixn ((jfi h 112 r0) - (1 : Int32)))) r1 h (pR D h 8 (fun v_13 h_11 => W_X27_at_83 D d Q (jfr h 108 r0) v_13 h_11) (jth Q)))))) ∧ (¬ (jfi h 112 r0) ≤ (x2 + (1 : Int32)) → (jfr h 111 r0) ≠ 0 ∧ jin x2 (jln h (jfr h 111 r0)) ∧ ((jar h (jfr h 111 r0) (ixn x2)) ≠ 0 ∧ (v55_at D d (jar h (jfr h 111 r0) (ixn x2)) r1 h (pR D h 8 (fun v_20 h_18 => W_X27_at_22 D d Q K2 r0 r1 x2 v_20 h_18) (jth Q))))))
theorem w_X27_at_2 {D : JD} {d : Nat} {Q : JO → JH → Prop} {K2 : Nat → Nat → Int32 → JH → Prop} {r0 : Nat} {r1 : Nat} {x2 : Int32} {h : JH} (hK2 : ∀ (r0 : Nat) (r1 : Nat) (x2 : Int32) (h : JH), K2 r0 r1 x2 h → JW D (d + 1) mX27_at 2 [some (vR 21 r0), some (vR 6 r1), some (vI x2)] [] h Q) (w : W_X27_at_2 D d Q K2 r0 r1 x2 h) : JW D (d + 1) mX27_at 2 [some (vR 21 r0), some (vR 6 r1), some (vI x2)] [] h Q := by
  unfold W_X27_at_2 at w
  refine jw_iload_n (pc' := 3) rfl rfl ?_
  refine jw_iconst (pc' := 4) (x := (1 : Int32)) rfl rfl ?_
  refine jw_iadd (pc' := 5) rfl ?_
  refine jw_aload_n (pc' := 6) rfl rfl ?_
  obtain ⟨g_1, w⟩ := w
  refine jw_getI (pc' := 9) (F := 112) rfl rfl rfl rfl g_1 ?_
  refine jw_icmp_ge (tgt := 54) (pc' := 12) rfl rfl (fun c_2 => ?_) (fun c_2 => ?_)
  · replace w := w.1 c_2
    refine jw_aload_n (pc' := 55) rfl rfl ?_
    refine jw_getI (pc' := 58) (F := 112) rfl rfl rfl rfl g_1 ?_
    refine jw_iconst (pc' := 59) (x := (2 : Int32)) rfl rfl ?_
    refine jw_irem (pc' := 60) rfl (by decide) ?_
    refine jw_iconst (pc' := 61) (x := (1 : Int32)) rfl rfl ?_
    refine jw_icmp_ne (tgt := 89) (pc' := 64) rfl rfl (fun c_3 => ?_) (fun c_3 => ?_)
    · replace w := w.1 c_3
      refine jw_aload_n (pc' := 90) rfl rfl ?_
      refine jw_getR (pc' := 93) (F := 108) (t' := 98) rfl rfl rfl rfl rfl g_1 ?_
      obtain ⟨g_4, w⟩ := w
      refine jw_cR (st := []) (sa := [vR 98 (jfr h 108 r0)]) okX14_none rfl rfl rfl rfl rfl rfl (jstp_virtual (sa := []) (st := []) (k := 0) rfl rfl sX14_none okX14_none g_4 (one98.k g_4) rfl rfl) w (fun v_7 h_5 _ _ _ w => ?_)
      refine jw_gen (ls' := [none, none, none]) (st' := [vR 8 v_7]) (trivial) (And.intro (Or.inl rfl) (trivial)) ?_
      exact w_X27_at_96 w
    · replace w := w.2 c_3
      refine jw_aload_n (pc' := 65) rfl rfl ?_
      refine jw_getR (pc' := 68) (F := 108) (t' := 98) rfl rfl rfl rfl rfl g_1 ?_
      refine jw_aload_n (pc' := 69) rfl rfl ?_
      refine jw_getR (pc' := 72) (F := 111) (t' := 77) rfl rfl rfl rfl rfl g_1 ?_
      refine jw_aload_n (pc' := 73) rfl rfl ?_
      refine jw_getI (pc' := 76) (F := 112) rfl rfl rfl rfl g_1 ?_
      refine jw_iconst (pc' := 77) (x := (1 : Int32)) rfl rfl ?_
      refine jw_isub (pc' := 78) rfl ?_
      obtain ⟨g_8, w⟩ := w
      obtain ⟨g_9, w⟩ := w
      refine jw_aald (pc' := 79) (t' := 55) rfl rfl rfl rfl g_8 g_9.ix g_9.2 ?_
      refine jw_aload_n (pc' := 80) rfl rfl ?_
      obtain ⟨g_10, w⟩ := w
      refine JW.inv (fun hI => JW.oks (fun ho => ?_))
      have hkd := und55.k hI (ho (vR 55 (jar h (jfr h 111 r0) (ixn ((jfi h 112 r0) - (1 : Int32))))) (by simp)) g_10
      simp only [List.mem_cons, List.not_mem_nil, or_false] at hkd
      clear ho hI
      rcases hkd with e_14 | e_14 | e_14 | e_14 | e_14 | e_14 | e_14 | e_14 | e_14 | e_14
      · refine jw_gen (ls' := _) (st' := [vR 6 r1, vR 20 (jar h (jfr h 111 r0) (ixn ((jfi h 112 r0) - (1 : Int32)))), vR 98 (jfr h 108 r0)]) (jgl_rf _ _) (And.intro (Or.inl rfl) (And.intro (Or.inr ⟨_, _, _, rfl, rfl, Or.inr (Or.inr (by rw [e_14]; rfl))⟩) (jgs_rf _ _))) ?_
        refine jw_cR (st := [vR 98 (jfr h 108 r0)]) (sa := [vR 20 (jar h (jfr h 111 r0) (ixn ((jfi h 112 r0) - (1 : Int32)))), vR 6 r1]) okX25_at rfl rfl rfl rfl rfl rfl (jstp_up (sa := [vR 6 r1]) (st := [vR 98 (jfr h 108 r0)]) rfl (lw_g (jtb_mem (c := 12) (i := 32) rfl) rfl) um28 okX25_at g_10 (fun _ _ => by rw [e_14]; exact ⟨rfl, rfl⟩) rfl rfl) (w.1 e_14) (fun v_13 h_11 _ _ _ w => ?_)
        refine jw_gen (ls' := [none, none, none]) (st' := [vR 8 v_13, vR 98 (jfr h 108 r0)]) (trivial) (And.intro (Or.inl rfl) (And.intro (Or.inl rfl) (trivial))) ?_
        exact w_X27_at_83 w
      · refine jw_gen (ls' := _) (st' := [vR 6 r1, vR 21 (jar h (jfr h 111 r0) (ixn ((jfi h 112 r0) - (1 : Int32)))), vR 98 (jfr h 108 r0)]) (jgl_rf _ _) (And.intro (Or.inl rfl) (And.intro (Or.inr ⟨_, _, _, rfl, rfl, Or.inr (Or.inr (by rw [e_14]; rfl))⟩) (jgs_rf _ _))) ?_
        refine jw_cR (st := [vR 98 (jfr h 108 r0)]) (sa := [vR 21 (jar h (jfr h 111 r0) (ixn ((jfi h 112 r0) - (1 : Int32)))), vR 6 r1]) okX27_at rfl rfl rfl rfl rfl rfl (jstp_up (sa := [vR 6 r1]) (st := [vR 98 (jfr h 108 r0)]) rfl (lw_g (jtb_mem (c := 12) (i := 32) rfl) rfl) um29 okX27_at g_10 (fun _ _ => by rw [e_14]; exact ⟨rfl, rfl⟩) rfl rfl) (w.2.1 e_14) (fun v_13 h_11 _ _ _ w => ?_)
        refine jw_gen (ls' := [none, none, none]) (st' := [vR 8 v_13, vR 98 (jfr h 108 r0)]) (trivial) (And.intro (Or.inl rfl) (And.intro (Or.inl rfl) (trivial))) ?_
        exact w_X27_at_83 w
      · refine jw_gen (ls' := _) (st' := [vR 6 r1, vR 22 (jar h (jfr h 111 r0) (ixn ((jfi h 112 r0) - (1 : Int32)))), vR 98 (jfr h 108 r0)]) (jgl_rf _ _) (And.intro (Or.inl rfl) (And.intro (Or.inr ⟨_, _, _, rfl, rfl, Or.inr (Or.inr (by rw [e_14]; rfl))⟩) (jgs_rf _ _))) ?_
        refine jw_cR (st := [vR 98 (jfr h 108 r0)]) (sa := [vR 22 (jar h (jfr h 111 r0) (ixn ((jfi h 112 r0) - (1 : Int32)))), vR 6 r1]) okX28_at rfl rfl rfl rfl rfl rfl (jstp_up (sa := [vR 6 r1]) (st := [vR 98 (jfr h 108 r0)]) rfl (lw_g (jtb_mem (c := 12) (i := 32) rfl) rfl) um30 okX28_at g_10 (fun _ _ => by rw [e_14]; exact ⟨rfl, rfl⟩) rfl rfl) (w.2.2.1 e_14) (fun v_13 h_11 _ _ _ w => ?_)
        refine jw_gen (ls' := [none, none, none]) (st' := [vR 8 v_13, vR 98 (jfr h 108 r0)]) (trivial) (And.intro (Or.inl rfl) (And.intro (Or.inl rfl) (trivial))) ?_
        exact w_X27_at_83 w
      · refine jw_gen (ls' := _) (st' := [vR 6 r1, vR 23 (jar h (jfr h 111 r0) (ixn ((jfi h 112 r0) - (1 : Int32)))), vR 98 (jfr h 108 r0)]) (jgl_rf _ _) (And.intro (Or.inl rfl) (And.intro (Or.inr ⟨_, _, _, rfl, rfl, Or.inr (Or.inr (by rw [e_14]; rfl))⟩) (jgs_rf _ _))) ?_
        refine jw_cR (st := [vR 98 (jfr h 108 r0)]) (sa := [vR 23 (jar h (jfr h 111 r0) (ixn ((jfi h 112 r0) - (1 : Int32)))), vR 6 r1]) okX29_at rfl rfl rfl rfl rfl rfl (jstp_up (sa := [vR 6 r1]) (st := [vR 98 (jfr h 108 r0)]) rfl (lw_g (jtb_mem (c := 12) (i := 32) rfl) rfl) um31 okX29_at g_10 (fun _ _ => by rw [e_14]; exact ⟨rfl, rfl⟩) rfl rfl) (w.2.2.2.1 e_14) (fun v_13 h_11 _ _ _ w => ?_)
        refine jw_gen (ls' := [none, none, none]) (st' := [vR 8 v_13, vR 98 (jfr h 108 r0)]) (trivial) (And.intro (Or.inl rfl) (And.intro (Or.inl rfl) (trivial))) ?_
        exact w_X27_at_83 w
      · refine jw_gen (ls' := _) (st' := [vR 6 r1, vR 24 (jar h (jfr h 111 r0) (ixn ((jfi h 112 r0) - (1 : Int32)))), vR 98 (jfr h 108 r0)]) (jgl_rf _ _) (And.intro (Or.inl rfl) (And.intro (Or.inr ⟨_, _, _, rfl, rfl, Or.inr (Or.inr (by rw [e_14]; rfl))⟩) (jgs_rf _ _))) ?_
        refine jw_cR (st := [vR 98 (jfr h 108 r0)]) (sa := [vR 24 (jar h (jfr h 111 r0) (ixn ((jfi h 112 r0) - (1 : Int32)))), vR 6 r1]) okX30_at rfl rfl rfl rfl rfl rfl (jstp_up (sa := [vR 6 r1]) (st := [vR 98 (jfr h 108 r0)]) rfl (lw_g (jtb_mem (c := 12) (i := 32) rfl) rfl) um32 okX30_at g_10 (fun _ _ => by rw [e_14]; exact ⟨rfl, rfl⟩) rfl rfl) (w.2.2.2.2.1 e_14) (fun v_13 h_11 _ _ _ w => ?_)
        refine jw_gen (ls' := [none, none, none]) (st' := [vR 8 v_13, vR 98 (jfr h 108 r0)]) (trivial) (And.intro (Or.inl rfl) (And.intro (Or.inl rfl) (trivial))) ?_
        exact w_X27_at_83 w
      · refine jw_gen (ls' := _) (st' := [vR 6 r1, vR 25 (jar h (jfr h 111 r0) (ixn ((jfi h 112 r0) - (1 : Int32)))), vR 98 (jfr h 108 r0)]) (jgl_rf _ _) (And.intro (Or.inl rfl) (And.intro (Or.inr ⟨_, _, _, rfl, rfl, Or.inr (Or.inr (by rw [e_14]; rfl))⟩) (jgs_rf _ _))) ?_
        refine jw_cR (st := [vR 98 (jfr h 108 r0)]) (sa := [vR 25 (jar h (jfr h 111 r0) (ixn ((jfi h 112 r0) - (1 : Int32)))), vR 6 r1]) okX31_at rfl rfl rfl rfl rfl rfl (jstp_up (sa := [vR 6 r1]) (st := [vR 98 (jfr h 108 r0)]) rfl (lw_g (jtb_mem (c := 12) (i := 32) rfl) rfl) um33 okX31_at g_10 (fun _ _ => by rw [e_14]; exact ⟨rfl, rfl⟩) rfl rfl) (w.2.2.2.2.2.1 e_14) (fun v_13 h_11 _ _ _ w => ?_)
        refine jw_gen (ls' := [none, none, none]) (st' := [vR 8 v_13, vR 98 (jfr h 108 r0)]) (trivial) (And.intro (Or.inl rfl) (And.intro (Or.inl rfl) (trivial))) ?_
        exact w_X27_at_83 w
      · refine jw_gen (ls' := _) (st' := [vR 6 r1, vR 26 (jar h (jfr h 111 r0) (ixn ((jfi h 112 r0) - (1 : Int32)))), vR 98 (jfr h 108 r0)]) (jgl_rf _ _) (And.intro (Or.inl rfl) (And.intro (Or.inr ⟨_, _, _, rfl, rfl, Or.inr (Or.inr (by rw [e_14]; rfl))⟩) (jgs_rf _ _))) ?_
        refine jw_cR (st := [vR 98 (jfr h 108 r0)]) (sa := [vR 26 (jar h (jfr h 111 r0) (ixn ((jfi h 112 r0) - (1 : Int32)))), vR 6 r1]) okX32_at rfl rfl rfl rfl rfl rfl (jstp_up (sa := [vR 6 r1]) (st := [vR 98 (jfr h 108 r0)]) rfl (lw_g (jtb_mem (c := 12) (i := 32) rfl) rfl) um34 okX32_at g_10 (fun _ _ => by rw [e_14]; exact ⟨rfl, rfl⟩) rfl rfl) (w.2.2.2.2.2.2.1 e_14) (fun v_13 h_11 _ _ _ w => ?_)
        refine jw_gen (ls' := [none, none, none]) (st' := [vR 8 v_13, vR 98 (jfr h 108 r0)]) (trivial) (And.intro (Or.inl rfl) (And.intro (Or.inl rfl) (trivial))) ?_
        exact w_X27_at_83 w
      · refine jw_gen (ls' := _) (st' := [vR 6 r1, vR 27 (jar h (jfr h 111 r0) (ixn ((jfi h 112 r0) - (1 : Int32)))), vR 98 (jfr h 108 r0)]) (jgl_rf _ _) (And.intro (Or.inl rfl) (And.intro (Or.inr ⟨_, _, _, rfl, rfl, Or.inr (Or.inr (by rw [e_14]; rfl))⟩) (jgs_rf _ _))) ?_
        refine jw_cR (st := [vR 98 (jfr h 108 r0)]) (sa := [vR 27 (jar h (jfr h 111 r0) (ixn ((jfi h 112 r0) - (1 : Int32)))), vR 6 r1]) okX33_at rfl rfl rfl rfl rfl rfl (jstp_up (sa := [vR 6 r1]) (st := [vR 98 (jfr h 108 r0)]) rfl (lw_g (jtb_mem (c := 12) (i := 32) rfl) rfl) um35 okX33_at g_10 (fun _ _ => by rw [e_14]; exact ⟨rfl, rfl⟩) rfl rfl) (w.2.2.2.2.2.2.2.1 e_14) (fun v_13 h_11 _ _ _ w => ?_)
        refine jw_gen (ls' := [none, none, none]) (st' := [vR 8 v_13, vR 98 (jfr h 108 r0)]) (trivial) (And.intro (Or.inl rfl) (And.intro (Or.inl rfl) (trivial))) ?_
        exact w_X27_at_83 w
      · refine jw_gen (ls' := _) (st' := [vR 6 r1, vR 28 (jar h (jfr h 111 r0) (ixn ((jfi h 112 r0) - (1 : Int32)))), vR 98 (jfr h 108 r0)]) (jgl_rf _ _) (And.intro (Or.inl rfl) (And.intro (Or.inr ⟨_, _, _, rfl, rfl, Or.inr (Or.inr (by rw [e_14]; rfl))⟩) (jgs_rf _ _))) ?_
        refine jw_cR (st := [vR 98 (jfr h 108 r0)]) (sa := [vR 28 (jar h (jfr h 111 r0) (ixn ((jfi h 112 r0) - (1 : Int32)))), vR 6 r1]) okX34_at rfl rfl rfl rfl rfl rfl (jstp_up (sa := [vR 6 r1]) (st := [vR 98 (jfr h 108 r0)]) rfl (lw_g (jtb_mem (c := 12) (i := 32) rfl) rfl) um36 okX34_at g_10 (fun _ _ => by rw [e_14]; exact ⟨rfl, rfl⟩) rfl rfl) (w.2.2.2.2.2.2.2.2.1 e_14) (fun v_13 h_11 _ _ _ w => ?_)
        refine jw_gen (ls' := [none, none, none]) (st' := [vR 8 v_13, vR 98 (jfr h 108 r0)]) (trivial) (And.intro (Or.inl rfl) (And.intro (Or.inl rfl) (trivial))) ?_
        exact w_X27_at_83 w
      · refine jw_gen (ls' := _) (st' := [vR 6 r1, vR 29 (jar h (jfr h 111 r0) (ixn ((jfi h 112 r0) - (1 : Int32)))), vR 98 (jfr h 108 r0)]) (jgl_rf _ _) (And.intro (Or.inl rfl) (And.intro (Or.inr ⟨_, _, _, rfl, rfl, Or.inr (Or.inr (by rw [e_14]; rfl))⟩) (jgs_rf _ _))) ?_
        refine jw_cR (st := [vR 98 (jfr h 108 r0)]) (sa := [vR 29 (jar h (jfr h 111 r0) (ixn ((jfi h 112 r0) - (1 : Int32)))), vR 6 r1]) okX35_at rfl rfl rfl rfl rfl rfl (jstp_up (sa := [vR 6 r1]) (st := [vR 98 (jfr h 108 r0)]) rfl (lw_g (jtb_mem (c := 12) (i := 32) rfl) rfl) um37 okX35_at g_10 (fun _ _ => by rw [e_14]; exact ⟨rfl, rfl⟩) rfl rfl) (w.2.2.2.2.2.2.2.2.2 e_14) (fun v_13 h_11 _ _ _ w => ?_)
        refine jw_gen (ls' := [none, none, none]) (st' := [vR 8 v_13, vR 98 (jfr h 108 r0)]) (trivial) (And.intro (Or.inl rfl) (And.intro (Or.inl rfl) (trivial))) ?_
        exact w_X27_at_83 w
  · replace w := w.2 c_2
    refine jw_aload_n (pc' := 13) rfl rfl ?_
    refine jw_getR (pc' := 16) (F := 111) (t' := 77) rfl rfl rfl rfl rfl g_1 ?_
    refine jw_iload_n (pc' := 17) rfl rfl ?_
    obtain ⟨g_15, w⟩ := w
    obtain ⟨g_16, w⟩ := w
    refine jw_aald (pc' := 18) (t' := 55) rfl rfl rfl rfl g_15 g_16.ix g_16.2 ?_
    refine jw_aload_n (pc' := 19) rfl rfl ?_
    obtain ⟨g_17, w⟩ := w
    refine JW.inv (fun hI => JW.oks (fun ho => ?_))
    have hkd := und55.k hI (ho (vR 55 (jar h (jfr h 111 r0) (ixn x2))) (by simp)) g_17
    simp only [List.mem_cons, List.not_mem_nil, or_false] at hkd
    clear ho hI
    rcases hkd with e_21 | e_21 | e_21 | e_21 | e_21 | e_21 | e_21 | e_21 | e_21 | e_21
    · refine jw_gen (ls' := _) (st' := [vR 6 r1, vR 20 (jar h (jfr h 111 r0) (ixn x2))]) (jgl_rf _ _) (And.intro (Or.inl rfl) (And.intro (Or.inr ⟨_, _, _, rfl, rfl, Or.inr (Or.inr (by rw [e_21]; rfl))⟩) (jgs_rf _ _))) ?_
      refine jw_cR (st := []) (sa := [vR 20 (jar h (jfr h 111 r0) (ixn x2)), vR 6 r1]) okX25_at rfl rfl rfl rfl rfl rfl (jstp_up (sa := [vR 6 r1]) (st := []) rfl (lw_g (jtb_mem (c := 12) (i := 32) rfl) rfl) um28 okX25_at g_17 (fun _ _ => by rw [e_21]; exact ⟨rfl, rfl⟩) rfl rfl) (w.1 e_21) (fun v_20 h_18 _ _ _ w => ?_)
      exact w_X27_at_22 hK2 w
    · refine jw_gen (ls' := _) (st' := [vR 6 r1, vR 21 (jar h (jfr h 111 r0) (ixn x2))]) (jgl_rf _ _) (And.intro (Or.inl rfl) (And.intro (Or.inr ⟨_, _, _, rfl, rfl, Or.inr (Or.inr (by rw [e_21]; rfl))⟩) (jgs_rf _ _))) ?_
      refine jw_cR (st := []) (sa := [vR 21 (jar h (jfr h 111 r0) (ixn x2)), vR 6 r1]) okX27_at rfl rfl rfl rfl rfl rfl (jstp_up (sa := [vR 6 r1]) (st := []) rfl (lw_g (jtb_mem (c := 12) (i := 32) rfl) rfl) um29 okX27_at g_17 (fun _ _ => by rw [e_21]; exact ⟨rfl, rfl⟩) rfl rfl) (w.2.1 e_21) (fun v_20 h_18 _ _ _ w => ?_)
      exact w_X27_at_22 hK2 w
    · refine jw_gen (ls' := _) (st' := [vR 6 r1, vR 22 (jar h (jfr h 111 r0) (ixn x2))]) (jgl_rf _ _) (And.intro (Or.inl rfl) (And.intro (Or.inr ⟨_, _, _, rfl, rfl, Or.inr (Or.inr (by rw [e_21]; rfl))⟩) (jgs_rf _ _))) ?_
      refine jw_cR (st := []) (sa := [vR 22 (jar h (jfr h 111 r0) (ixn x2)), vR 6 r1]) okX28_at rfl rfl rfl rfl rfl rfl (jstp_up (sa := [vR 6 r1]) (st := []) rfl (lw_g (jtb_mem (c := 12) (i := 32) rfl) rfl) um30 okX28_at g_17 (fun _ _ => by rw [e_21]; exact ⟨rfl, rfl⟩) rfl rfl) (w.2.2.1 e_21) (fun v_20 h_18 _ _ _ w => ?_)
      exact w_X27_at_22 hK2 w
    · refine jw_gen (ls' := _) (st' := [vR 6 r1, vR 23 (jar h (jfr h 111 r0) (ixn x2))]) (jgl_rf _ _) (And.intro (Or.inl rfl) (And.intro (Or.inr ⟨_, _, _, rfl, rfl, Or.inr (Or.inr (by rw [e_21]; rfl))⟩) (jgs_rf _ _))) ?_
      refine jw_cR (st := []) (sa := [vR 23 (jar h (jfr h 111 r0) (ixn x2)), vR 6 r1]) okX29_at rfl rfl rfl rfl rfl rfl (jstp_up (sa := [vR 6 r1]) (st := []) rfl (lw_g (jtb_mem (c := 12) (i := 32) rfl) rfl) um31 okX29_at g_17 (fun _ _ => by rw [e_21]; exact ⟨rfl, rfl⟩) rfl rfl) (w.2.2.2.1 e_21) (fun v_20 h_18 _ _ _ w => ?_)
      exact w_X27_at_22 hK2 w
    · refine jw_gen (ls' := _) (st' := [vR 6 r1, vR 24 (jar h (jfr h 111 r0) (ixn x2))]) (jgl_rf _ _) (And.intro (Or.inl rfl) (And.intro (Or.inr ⟨_, _, _, rfl, rfl, Or.inr (Or.inr (by rw [e_21]; rfl))⟩) (jgs_rf _ _))) ?_
      refine jw_cR (st := []) (sa := [vR 24 (jar h (jfr h 111 r0) (ixn x2)), vR 6 r1]) okX30_at rfl rfl rfl rfl rfl rfl (jstp_up (sa := [vR 6 r1]) (st := []) rfl (lw_g (jtb_mem (c := 12) (i := 32) rfl) rfl) um32 okX30_at g_17 (fun _ _ => by rw [e_21]; exact ⟨rfl, rfl⟩) rfl rfl) (w.2.2.2.2.1 e_21) (fun v_20 h_18 _ _ _ w => ?_)
      exact w_X27_at_22 hK2 w
    · refine jw_gen (ls' := _) (st' := [vR 6 r1, vR 25 (jar h (jfr h 111 r0) (ixn x2))]) (jgl_rf _ _) (And.intro (Or.inl rfl) (And.intro (Or.inr ⟨_, _, _, rfl, rfl, Or.inr (Or.inr (by rw [e_21]; rfl))⟩) (jgs_rf _ _))) ?_
      refine jw_cR (st := []) (sa := [vR 25 (jar h (jfr h 111 r0) (ixn x2)), vR 6 r1]) okX31_at rfl rfl rfl rfl rfl rfl (jstp_up (sa := [vR 6 r1]) (st := []) rfl (lw_g (jtb_mem (c := 12) (i := 32) rfl) rfl) um33 okX31_at g_17 (fun _ _ => by rw [e_21]; exact ⟨rfl, rfl⟩) rfl rfl) (w.2.2.2.2.2.1 e_21) (fun v_20 h_18 _ _ _ w => ?_)
      exact w_X27_at_22 hK2 w
    · refine jw_gen (ls' := _) (st' := [vR 6 r1, vR 26 (jar h (jfr h 111 r0) (ixn x2))]) (jgl_rf _ _) (And.intro (Or.inl rfl) (And.intro (Or.inr ⟨_, _, _, rfl, rfl, Or.inr (Or.inr (by rw [e_21]; rfl))⟩) (jgs_rf _ _))) ?_
      refine jw_cR (st := []) (sa := [vR 26 (jar h (jfr h 111 r0) (ixn x2)), vR 6 r1]) okX32_at rfl rfl rfl rfl rfl rfl (jstp_up (sa := [vR 6 r1]) (st := []) rfl (lw_g (jtb_mem (c := 12) (i := 32) rfl) rfl) um34 okX32_at g_17 (fun _ _ => by rw [e_21]; exact ⟨rfl, rfl⟩) rfl rfl) (w.2.2.2.2.2.2.1 e_21) (fun v_20 h_18 _ _ _ w => ?_)
      exact w_X27_at_22 hK2 w
    · refine jw_gen (ls' := _) (st' := [vR 6 r1, vR 27 (jar h (jfr h 111 r0) (ixn x2))]) (jgl_rf _ _) (And.intro (Or.inl rfl) (And.intro (Or.inr ⟨_, _, _, rfl, rfl, Or.inr (Or.inr (by rw [e_21]; rfl))⟩) (jgs_rf _ _))) ?_
      refine jw_cR (st := []) (sa := [vR 27 (jar h (jfr h 111 r0) (ixn x2)), vR 6 r1]) okX33_at rfl rfl rfl rfl rfl rfl (jstp_up (sa := [vR 6 r1]) (st := []) rfl (lw_g (jtb_mem (c := 12) (i := 32) rfl) rfl) um35 okX33_at g_17 (fun _ _ => by rw [e_21]; exact ⟨rfl, rfl⟩) rfl rfl) (w.2.2.2.2.2.2.2.1 e_21) (fun v_20 h_18 _ _ _ w => ?_)
      exact w_X27_at_22 hK2 w
    · refine jw_gen (ls' := _) (st' := [vR 6 r1, vR 28 (jar h (jfr h 111 r0) (ixn x2))]) (jgl_rf _ _) (And.intro (Or.inl rfl) (And.intro (Or.inr ⟨_, _, _, rfl, rfl, Or.inr (Or.inr (by rw [e_21]; rfl))⟩) (jgs_rf _ _))) ?_
      refine jw_cR (st := []) (sa := [vR 28 (jar h (jfr h 111 r0) (ixn x2)), vR 6 r1]) okX34_at rfl rfl rfl rfl rfl rfl (jstp_up (sa := [vR 6 r1]) (st := []) rfl (lw_g (jtb_mem (c := 12) (i := 32) rfl) rfl) um36 okX34_at g_17 (fun _ _ => by rw [e_21]; exact ⟨rfl, rfl⟩) rfl rfl) (w.2.2.2.2.2.2.2.2.1 e_21) (fun v_20 h_18 _ _ _ w => ?_)
      exact w_X27_at_22 hK2 w
    · refine jw_gen (ls' := _) (st' := [vR 6 r1, vR 29 (jar h (jfr h 111 r0) (ixn x2))]) (jgl_rf _ _) (And.intro (Or.inl rfl) (And.intro (Or.inr ⟨_, _, _, rfl, rfl, Or.inr (Or.inr (by rw [e_21]; rfl))⟩) (jgs_rf _ _))) ?_
      refine jw_cR (st := []) (sa := [vR 29 (jar h (jfr h 111 r0) (ixn x2)), vR 6 r1]) okX35_at rfl rfl rfl rfl rfl rfl (jstp_up (sa := [vR 6 r1]) (st := []) rfl (lw_g (jtb_mem (c := 12) (i := 32) rfl) rfl) um37 okX35_at g_17 (fun _ _ => by rw [e_21]; exact ⟨rfl, rfl⟩) rfl rfl) (w.2.2.2.2.2.2.2.2.2 e_21) (fun v_20 h_18 _ _ _ w => ?_)
      exact w_X27_at_22 hK2 w
def L_X27_at_2 (D : JD) (d : Nat) (Q : JO → JH → Prop) : Nat → Nat → Nat → Int32 → JH → Prop
  | 0 => fun _ _ _ _ => False
  | n + 1 => fun r0 r1 x2 h => W_X27_at_2 D d Q (L_X27_at_2 D d Q n) r0 r1 x2 h
theorem l_X27_at_2 {D : JD} {d : Nat} {Q : JO → JH → Prop} : ∀ (n : Nat) (r0 : Nat) (r1 : Nat) (x2 : Int32) (h : JH), L_X27_at_2 D d Q n r0 r1 x2 h → JW D (d + 1) mX27_at 2 [some (vR 21 r0), some (vR 6 r1), some (vI x2)] [] h Q := by
  intro n
  induction n with
  | zero => intro _ _ _ _ w; exact w.elim
  | succ n ih => intro _ _ _ h w; exact w_X27_at_2 ih w
def W_X27_at_0 (D : JD) (d : Nat) (Q : JO → JH → Prop) (r0 : Nat) (r1 : Nat) (h : JH) : Prop :=
  ∃ n, L_X27_at_2 D d Q n r0 r1 (0 : Int32) h
theorem w_X27_at_0 {D : JD} {d : Nat} {Q : JO → JH → Prop} {r0 : Nat} {r1 : Nat} {h : JH} (w : W_X27_at_0 D d Q r0 r1 h) : JW D (d + 1) mX27_at 0 [some (vR 21 r0), some (vR 6 r1), none] [] h Q := by
  unfold W_X27_at_0 at w
  refine jw_iconst (pc' := 1) (x := (0 : Int32)) rfl rfl ?_
  refine jw_istore_n (pc' := 2) (ls' := [some (vR 21 r0), some (vR 6 r1), some (vI (0 : Int32))]) rfl (by decide) rfl ?_
  obtain ⟨n, w⟩ := w
  exact l_X27_at_2 n _ _ _ _ w
def T_X27_at (D : JD) (d : Nat) (Q : JO → JH → Prop) (r0 : Nat) (r1 : Nat) (h : JH) : Prop := W_X27_at_0 D d Q r0 r1 h
theorem t_X27_at {D : JD} {d : Nat} {Q : JO → JH → Prop} {r0 : Nat} {r1 : Nat} {h : JH} (w : T_X27_at D d Q r0 r1 h) : cX27_at D (d + 1) r0 r1 h Q := by
  unfold T_X27_at at w
  unfold cX27_at
  exact w_X27_at_0 w
def W_X28_known_41 (D : JD) (d : Nat) (Q : JO → JH → Prop) (s0 : Int32) (h : JH) : Prop :=
  jbo s0 ∧ (Q (.inl (some (vI s0))) h)
theorem w_X28_known_41 {D : JD} {d : Nat} {Q : JO → JH → Prop} {s0 : Int32} {h : JH} (w : W_X28_known_41 D d Q s0 h) : JW D (d + 1) mX28_known 41 [none] [vI s0] h Q := by
  unfold W_X28_known_41 at w
  obtain ⟨g_1, w⟩ := w
  exact jw_ireturn rfl rfl (g_1.nr) w
def W_X28_known_36 (D : JD) (d : Nat) (Q : JO → JH → Prop) (h : JH) : Prop :=
  W_X28_known_41 D d Q (1 : Int32) h
theorem w_X28_known_36 {D : JD} {d : Nat} {Q : JO → JH → Prop} {h : JH} (w : W_X28_known_36 D d Q h) : JW D (d + 1) mX28_known 36 [none] [] h Q := by
  unfold W_X28_known_36 at w
  refine jw_iconst (pc' := 37) (x := (1 : Int32)) rfl rfl ?_
  refine jw_goto (pc' := 41) rfl rfl ?_
  exact w_X28_known_41 w
def W_X28_known_0 (D : JD) (d : Nat) (Q : JO → JH → Prop) (r0 : Nat) (h : JH) : Prop :=
  r0 ≠ 0 ∧ (cJ5_equals D d r0 (jcs D 114) h (pI D h (fun v_4 h_2 => (¬ v_4 = 0 → W_X28_known_36 D d Q h_2) ∧ (v_4 = 0 → cJ5_equals D d r0 (jcs D 115) h_2 (pI D h_2 (fun v_8 h_6 => (¬ v_8 = 0 → W_X28_known_36 D d Q h_6) ∧ (v_8 = 0 → cJ5_equals D d r0 (jcs D 116) h_6 (pI D h_6 (fun v_12 h_10 => (¬ v_12 = 0 → W_X28_known_36 D d Q h_10) ∧ (v_12 = 0 → cJ5_equals D d r0 (jcs D 117) h_10 (pI D h_10 (fun v_16 h_14 => (v_16 = 0 → W_X28_known_41 D d Q (0 : Int32) h_14) ∧ (¬ v_16 = 0 → W_X28_known_36 D d Q h_14)) (jth Q)))) (jth Q)))) (jth Q)))) (jth Q)))
theorem w_X28_known_0 {D : JD} {d : Nat} {Q : JO → JH → Prop} {r0 : Nat} {h : JH} (w : W_X28_known_0 D d Q r0 h) : JW D (d + 1) mX28_known 0 [some (vR 64 r0)] [] h Q := by
  unfold W_X28_known_0 at w
  refine jw_aload_n (pc' := 1) rfl rfl ?_
  refine jw_ldcS (pc' := 3) rfl rfl rfl rfl ?_
  obtain ⟨g_1, w⟩ := w
  refine jw_cI (st := []) (sa := [vR 64 r0, vR 51 (jcs D 114)]) okJ5_equals rfl rfl rfl rfl rfl rfl (jstp_virtual (sa := [vR 51 (jcs D 114)]) (st := []) (k := 0) rfl rfl sJ5_equals okJ5_equals g_1 (one64.k g_1) rfl rfl) w (fun v_4 h_2 _ _ w => ?_)
  refine jw_if_ne (tgt := 36) (pc' := 9) rfl rfl (fun c_5 => ?_) (fun c_5 => ?_)
  · replace w := w.1 c_5
    refine jw_gen (ls' := [none]) (st' := []) (trivial) (trivial) ?_
    exact w_X28_known_36 w
  · replace w := w.2 c_5
    refine jw_aload_n (pc' := 10) rfl rfl ?_
    refine jw_ldcS (pc' := 12) rfl rfl rfl rfl ?_
    refine jw_cI (st := []) (sa := [vR 64 r0, vR 51 (jcs D 115)]) okJ5_equals rfl rfl rfl rfl rfl rfl (jstp_virtual (sa := [vR 51 (jcs D 115)]) (st := []) (k := 0) rfl rfl sJ5_equals okJ5_equals g_1 (one64.k g_1) rfl rfl) w (fun v_8 h_6 _ _ w => ?_)
    refine jw_if_ne (tgt := 36) (pc' := 18) rfl rfl (fun c_9 => ?_) (fun c_9 => ?_)
    · replace w := w.1 c_9
      refine jw_gen (ls' := [none]) (st' := []) (trivial) (trivial) ?_
      exact w_X28_known_36 w
    · replace w := w.2 c_9
      refine jw_aload_n (pc' := 19) rfl rfl ?_
      refine jw_ldcS (pc' := 21) rfl rfl rfl rfl ?_
      refine jw_cI (st := []) (sa := [vR 64 r0, vR 51 (jcs D 116)]) okJ5_equals rfl rfl rfl rfl rfl rfl (jstp_virtual (sa := [vR 51 (jcs D 116)]) (st := []) (k := 0) rfl rfl sJ5_equals okJ5_equals g_1 (one64.k g_1) rfl rfl) w (fun v_12 h_10 _ _ w => ?_)
      refine jw_if_ne (tgt := 36) (pc' := 27) rfl rfl (fun c_13 => ?_) (fun c_13 => ?_)
      · replace w := w.1 c_13
        refine jw_gen (ls' := [none]) (st' := []) (trivial) (trivial) ?_
        exact w_X28_known_36 w
      · replace w := w.2 c_13
        refine jw_aload_n (pc' := 28) rfl rfl ?_
        refine jw_ldcS (pc' := 30) rfl rfl rfl rfl ?_
        refine jw_cI (st := []) (sa := [vR 64 r0, vR 51 (jcs D 117)]) okJ5_equals rfl rfl rfl rfl rfl rfl (jstp_virtual (sa := [vR 51 (jcs D 117)]) (st := []) (k := 0) rfl rfl sJ5_equals okJ5_equals g_1 (one64.k g_1) rfl rfl) w (fun v_16 h_14 _ _ w => ?_)
        refine jw_if_eq (tgt := 40) (pc' := 36) rfl rfl (fun c_17 => ?_) (fun c_17 => ?_)
        · replace w := w.1 c_17
          refine jw_iconst (pc' := 41) (x := (0 : Int32)) rfl rfl ?_
          refine jw_gen (ls' := [none]) (st' := [vI (0 : Int32)]) (trivial) (And.intro (Or.inl rfl) (trivial)) ?_
          exact w_X28_known_41 w
        · replace w := w.2 c_17
          refine jw_gen (ls' := [none]) (st' := []) (trivial) (trivial) ?_
          exact w_X28_known_36 w
def T_X28_known (D : JD) (d : Nat) (Q : JO → JH → Prop) (r0 : Nat) (h : JH) : Prop := W_X28_known_0 D d Q r0 h
theorem t_X28_known {D : JD} {d : Nat} {Q : JO → JH → Prop} {r0 : Nat} {h : JH} (w : T_X28_known D d Q r0 h) : cX28_known D (d + 1) r0 h Q := by
  unfold T_X28_known at w
  unfold cX28_known
  exact w_X28_known_0 w
def W_X28_init_0 (D : JD) (d : Nat) (Q : JO → JH → Prop) (r0 : Nat) (r1 : Nat) (r2 : Nat) (x3 : Int32) (x4 : Int32) (h : JH) : Prop :=
  r0 ≠ 0 ∧ (cX26_init D d r0 r2 x3 h (pV D h (fun h_2 => ∀ (r_5 : Nat) (h_6 : JH), r_5 = jsz h_2 + 1 → h_6 = nwo h_2 99 5 → (cX14_init D d r_5 h_6 (pV D h_6 (fun h_9 => ∀ h_12 : JH, h_12 = wfr h_9 115 r0 r_5 → (∀ h_14 : JH, h_14 = wfr h_12 113 r0 r1 → (jbo x4 ∧ ∀ h_17 : JH, h_17 = wfi h_14 114 r0 x4 → (Q (.inl none) h_17)))) (jth Q)))) (jth Q)))
theorem w_X28_init_0 {D : JD} {d : Nat} {Q : JO → JH → Prop} {r0 : Nat} {r1 : Nat} {r2 : Nat} {x3 : Int32} {x4 : Int32} {h : JH} (w : W_X28_init_0 D d Q r0 r1 r2 x3 x4 h) : JW D (d + 1) mX28_init 0 [some (vR 22 r0), some (vR 64 r1), some (vR 77 r2), some (vI x3), some (vI x4)] [] h Q := by
  unfold W_X28_init_0 at w
  refine jw_aload_n (pc' := 1) rfl rfl ?_
  refine jw_aload_n (pc' := 2) rfl rfl ?_
  refine jw_iload_n (pc' := 3) rfl rfl ?_
  obtain ⟨g_1, w⟩ := w
  refine jw_cV (st := []) (sa := [vR 22 r0, vR 77 r2, vI x3]) okX26_init rfl rfl rfl rfl rfl rfl (jstp_init (sa := [vR 77 r2, vI x3]) (st := []) rfl rfl sX26_init okX26_init (lw_g (jtb_mem (c := 7) (i := 184) rfl) rfl) g_1 rfl rfl) w (fun h_2 _ _ w => ?_)
  refine jw_aload_n (pc' := 7) rfl rfl ?_
  refine jw_new' (pc' := 10) (k := 99) (n := 5) rfl rfl rfl rfl rfl rfl rfl (fun r_5 h_6 e_7 e_8 => ?_)
  replace w := w r_5 h_6 e_7 e_8
  refine jw_dup (pc' := 11) rfl rfl ?_
  refine jw_cV (st := [vR 99 r_5, vR 22 r0]) (sa := [vR 99 r_5]) okX14_init rfl rfl rfl rfl rfl rfl (jstp_init (sa := []) (st := [vR 99 r_5, vR 22 r0]) rfl rfl sX14_init okX14_init (lw_g (jtb_mem (c := 2) (i := 222) rfl) rfl) (jnz e_7) rfl rfl) w (fun h_9 _ _ w => ?_)
  refine jw_putR' (pc' := 17) (F := 115) rfl rfl rfl (Or.inr rfl) (Or.inr ⟨rfl, rfl⟩) rfl rfl rfl g_1 (fun h_12 e_13 => ?_)
  replace w := w h_12 e_13
  refine jw_aload_n (pc' := 18) rfl rfl ?_
  refine jw_aload_n (pc' := 19) rfl rfl ?_
  refine jw_putR' (pc' := 22) (F := 113) rfl rfl rfl (Or.inr rfl) (Or.inr ⟨rfl, rfl⟩) rfl rfl rfl g_1 (fun h_14 e_15 => ?_)
  replace w := w h_14 e_15
  refine jw_aload_n (pc' := 23) rfl rfl ?_
  refine jw_iload (pc' := 25) rfl rfl ?_
  obtain ⟨g_16, w⟩ := w
  refine jw_putI' (pc' := 28) (F := 114) rfl rfl rfl (Or.inr rfl) (Or.inr ⟨rfl, rfl⟩) rfl (g_16.nr) (g_16.ft) rfl g_1 (fun h_17 e_18 => ?_)
  replace w := w h_17 e_18
  exact jw_return rfl rfl w
def T_X28_init (D : JD) (d : Nat) (Q : JO → JH → Prop) (r0 : Nat) (r1 : Nat) (r2 : Nat) (x3 : Int32) (x4 : Int32) (h : JH) : Prop := W_X28_init_0 D d Q r0 r1 r2 x3 x4 h
theorem t_X28_init {D : JD} {d : Nat} {Q : JO → JH → Prop} {r0 : Nat} {r1 : Nat} {r2 : Nat} {x3 : Int32} {x4 : Int32} {h : JH} (w : T_X28_init D d Q r0 r1 r2 x3 x4 h) : cX28_init D (d + 1) r0 r1 r2 x3 x4 h Q := by
  unfold T_X28_init at w
  unfold cX28_init
  exact w_X28_init_0 w
def W_X28_check_99 (D : JD) (d : Nat) (Q : JO → JH → Prop) (h : JH) : Prop :=
  cX1_fault D d (jcs D 171) h (pR D h 9 (fun v_3 h_1 => v_3 ≠ 0 ∧ (Q (.inr v_3) h_1)) (jth Q))
theorem w_X28_check_99 {D : JD} {d : Nat} {Q : JO → JH → Prop} {h : JH} (w : W_X28_check_99 D d Q h) : JW D (d + 1) mX28_check 99 [none, none, none, none, none] [] h Q := by
  unfold W_X28_check_99 at w
  refine jw_ldcS (pc' := 101) rfl rfl rfl rfl ?_
  refine jw_cR (st := []) (sa := [vR 51 (jcs D 171)]) okX1_fault rfl rfl rfl rfl rfl rfl (jstp_static (sa := [vR 51 (jcs D 171)]) (st := []) rfl rfl sX1_fault okX1_fault rfl rfl) w (fun v_3 h_1 _ _ _ w => ?_)
  obtain ⟨g_4, w⟩ := w
  exact jw_athrow rfl rfl g_4 w
def W_X28_check_172 (D : JD) (d : Nat) (Q : JO → JH → Prop) (r0 : Nat) (q0 : Nat) (q1 : Nat) (h : JH) : Prop :=
  q0 ≠ 0 ∧ ∀ h_2 : JH, h_2 = wfr h 109 q0 q1 → (r0 ≠ 0 ∧ (Q (.inl (some (vR 52 (jfr h_2 109 r0)))) h_2))
theorem w_X28_check_172 {D : JD} {d : Nat} {Q : JO → JH → Prop} {r0 : Nat} {q0 : Nat} {q1 : Nat} {h : JH} (w : W_X28_check_172 D d Q r0 q0 q1 h) : JW D (d + 1) mX28_check 172 [some (vR 22 r0), none, none, none, none] [vR 52 q1, vR 22 q0] h Q := by
  unfold W_X28_check_172 at w
  obtain ⟨g_1, w⟩ := w
  refine jw_putR' (pc' := 175) (F := 109) rfl rfl rfl (Or.inr rfl) (Or.inl rfl) rfl rfl rfl g_1 (fun h_2 e_3 => ?_)
  replace w := w h_2 e_3
  refine jw_aload_n (pc' := 176) rfl rfl ?_
  obtain ⟨g_4, w⟩ := w
  refine jw_getR (pc' := 179) (F := 109) (t' := 52) rfl rfl rfl rfl rfl g_4 ?_
  exact jw_areturn rfl rfl rfl rfl rfl w
def W_X28_check_157 (D : JD) (d : Nat) (Q : JO → JH → Prop) (r0 : Nat) (q0 : Nat) (h : JH) : Prop :=
  W_X28_check_172 D d Q r0 q0 (jcs D 356) h
theorem w_X28_check_157 {D : JD} {d : Nat} {Q : JO → JH → Prop} {r0 : Nat} {q0 : Nat} {h : JH} (w : W_X28_check_157 D d Q r0 q0 h) : JW D (d + 1) mX28_check 157 [some (vR 22 r0), none, none, none, none] [vR 22 q0] h Q := by
  unfold W_X28_check_157 at w
  refine jw_getsR (pc' := 160) rfl rfl rfl rfl ?_
  refine jw_goto (pc' := 172) rfl rfl ?_
  exact w_X28_check_172 w
def W_X28_check_132 (D : JD) (d : Nat) (Q : JO → JH → Prop) (r0 : Nat) (h : JH) : Prop :=
  r0 ≠ 0 ∧ ((jfr h 113 r0) ≠ 0 ∧ (cJ5_equals D d (jfr h 113 r0) (jcs D 114) h (pI D h (fun v_5 h_3 => (¬ v_5 = 0 → W_X28_check_157 D d Q r0 r0 h_3) ∧ (v_5 = 0 → (jfr h_3 113 r0) ≠ 0 ∧ (cJ5_equals D d (jfr h_3 113 r0) (jcs D 115) h_3 (pI D h_3 (fun v_10 h_8 => (v_10 = 0 → (jfr h_8 111 r0) ≠ 0 ∧ jin (0 : Int32) (jln h_8 (jfr h_8 111 r0)) ∧ ((jar h_8 (jfr h_8 111 r0) (ixn (0 : Int32))) ≠ 0 ∧ (W_X28_check_172 D d Q r0 r0 (jfr h_8 109 (jar h_8 (jfr h_8 111 r0) (ixn (0 : Int32)))) h_8))) ∧ (¬ v_10 = 0 → W_X28_check_157 D d Q r0 r0 h_8)) (jth Q))))) (jth Q))))
theorem w_X28_check_132 {D : JD} {d : Nat} {Q : JO → JH → Prop} {r0 : Nat} {h : JH} (w : W_X28_check_132 D d Q r0 h) : JW D (d + 1) mX28_check 132 [some (vR 22 r0), none, none, none, none] [] h Q := by
  unfold W_X28_check_132 at w
  refine jw_aload_n (pc' := 133) rfl rfl ?_
  refine jw_aload_n (pc' := 134) rfl rfl ?_
  obtain ⟨g_1, w⟩ := w
  refine jw_getR (pc' := 137) (F := 113) (t' := 64) rfl rfl rfl rfl rfl g_1 ?_
  refine jw_ldcS (pc' := 139) rfl rfl rfl rfl ?_
  obtain ⟨g_2, w⟩ := w
  refine jw_cI (st := [vR 22 r0]) (sa := [vR 64 (jfr h 113 r0), vR 51 (jcs D 114)]) okJ5_equals rfl rfl rfl rfl rfl rfl (jstp_virtual (sa := [vR 51 (jcs D 114)]) (st := [vR 22 r0]) (k := 0) rfl rfl sJ5_equals okJ5_equals g_2 (one64.k g_2) rfl rfl) w (fun v_5 h_3 _ _ w => ?_)
  refine jw_if_ne (tgt := 157) (pc' := 145) rfl rfl (fun c_6 => ?_) (fun c_6 => ?_)
  · replace w := w.1 c_6
    exact w_X28_check_157 w
  · replace w := w.2 c_6
    refine jw_aload_n (pc' := 146) rfl rfl ?_
    refine jw_getR (pc' := 149) (F := 113) (t' := 64) rfl rfl rfl rfl rfl g_1 ?_
    refine jw_ldcS (pc' := 151) rfl rfl rfl rfl ?_
    obtain ⟨g_7, w⟩ := w
    refine jw_cI (st := [vR 22 r0]) (sa := [vR 64 (jfr h_3 113 r0), vR 51 (jcs D 115)]) okJ5_equals rfl rfl rfl rfl rfl rfl (jstp_virtual (sa := [vR 51 (jcs D 115)]) (st := [vR 22 r0]) (k := 0) rfl rfl sJ5_equals okJ5_equals g_7 (one64.k g_7) rfl rfl) w (fun v_10 h_8 _ _ w => ?_)
    refine jw_if_eq (tgt := 163) (pc' := 157) rfl rfl (fun c_11 => ?_) (fun c_11 => ?_)
    · replace w := w.1 c_11
      refine jw_aload_n (pc' := 164) rfl rfl ?_
      refine jw_getR (pc' := 167) (F := 111) (t' := 77) rfl rfl rfl rfl rfl g_1 ?_
      refine jw_iconst (pc' := 168) (x := (0 : Int32)) rfl rfl ?_
      obtain ⟨g_12, w⟩ := w
      obtain ⟨g_13, w⟩ := w
      refine jw_aald (pc' := 169) (t' := 55) rfl rfl rfl rfl g_12 g_13.ix g_13.2 ?_
      obtain ⟨g_14, w⟩ := w
      refine jw_getR (pc' := 172) (F := 109) (t' := 52) rfl rfl rfl rfl rfl g_14 ?_
      exact w_X28_check_172 w
    · replace w := w.2 c_11
      exact w_X28_check_157 w
def W_X28_check_66 (D : JD) (d : Nat) (Q : JO → JH → Prop) (K46 : Nat → Nat → Int32 → Int32 → Int32 → JH → Prop) (r0 : Nat) (r1 : Nat) (x2 : Int32) (x3 : Int32) (x4 : Int32) (q0 : Nat) (h : JH) : Prop :=
  K46 r0 r1 x2 x3 (x4 + (1 : Int32)) h
theorem w_X28_check_66 {D : JD} {d : Nat} {Q : JO → JH → Prop} {K46 : Nat → Nat → Int32 → Int32 → Int32 → JH → Prop} {r0 : Nat} {r1 : Nat} {x2 : Int32} {x3 : Int32} {x4 : Int32} {q0 : Nat} {h : JH} (hK46 : ∀ (r0 : Nat) (r1 : Nat) (x2 : Int32) (x3 : Int32) (x4 : Int32) (h : JH), K46 r0 r1 x2 x3 x4 h → JW D (d + 1) mX28_check 46 [some (vR 22 r0), some (vR 6 r1), some (vI x2), some (vI x3), some (vI x4)] [] h Q) (w : W_X28_check_66 D d Q K46 r0 r1 x2 x3 x4 q0 h) : JW D (d + 1) mX28_check 66 [some (vR 22 r0), some (vR 6 r1), some (vI x2), some (vI x3), some (vI x4)] [vR 52 q0] h Q := by
  unfold W_X28_check_66 at w
  refine jw_pop (pc' := 67) rfl rfl ?_
  refine jw_iinc (pc' := 70) (y := x4 + (1 : Int32)) (ls' := [some (vR 22 r0), some (vR 6 r1), some (vI x2), some (vI x3), some (vI (x4 + (1 : Int32)))]) rfl (by decide) rfl rfl rfl ?_
  refine jw_goto (pc' := 46) rfl rfl ?_
  exact hK46 _ _ _ _ _ _ w
def W_X28_check_46 (D : JD) (d : Nat) (Q : JO → JH → Prop) (K46 : Nat → Nat → Int32 → Int32 → Int32 → JH → Prop) (r0 : Nat) (r1 : Nat) (x2 : Int32) (x3 : Int32) (x4 : Int32) (h : JH) : Prop :=
  r0 ≠ 0 ∧ (((jfi h 112 r0) ≤ x4 → r1 ≠ 0 ∧ jbo x3 ∧ ∀ h_5 : JH, h_5 = wfi h 52 r1 x3 → ((¬ x2 = 0 → ((jfi h_5 51 r1) = 0 → W_X28_check_99 D d Q h_5) ∧ (¬ (jfi h_5 51 r1) = 0 → (x3 = 0 → (jfr h_5 113 r0) ≠ 0 ∧ (cJ5_equals D d (jfr h_5 113 r0) (jcs D 115) h_5 (pI D h_5 (fun v_13 h_11 => (v_13 = 0 → W_X28_check_132 D d Q r0 h_11) ∧ (¬ v_13 = 0 → (jfr h_11 111 r0) ≠ 0 ∧ jin (0 : Int32) (jln h_11 (jfr h_11 111 r0)) ∧ ((jar h_11 (jfr h_11 111 r0) (ixn (0 : Int32))) ≠ 0 ∧ (cX24_need D d (jfr h_11 109 (jar h_11 (jfr h_11 111 r0) (ixn (0 : Int32)))) (jcs D 356) h_11 (pV D h_11 (fun h_18 => W_X28_check_132 D d Q r0 h_18) (jth Q)))))) (jth Q)))) ∧ (¬ x3 = 0 → W_X28_check_99 D d Q h_5))) ∧ (x2 = 0 → cX1_fault D d (jcs D 170) h_5 (pR D h_5 9 (fun v_23 h_21 => v_23 ≠ 0 ∧ (Q (.inr v_23) h_21)) (jth Q))))) ∧ (¬ (jfi h 112 r0) ≤ x4 → (jfr h 111 r0) ≠ 0 ∧ jin x4 (jln h (jfr h 111 r0)) ∧ ((jar h (jfr h 111 r0) (ixn x4)) ≠ 0 ∧ (v55_check D d (jar h (jfr h 111 r0) (ixn x4)) r1 h (pR D h 52 (fun v_30 h_28 => W_X28_check_66 D d Q K46 r0 r1 x2 x3 x4 v_30 h_28) (jth Q))))))
theorem w_X28_check_46 {D : JD} {d : Nat} {Q : JO → JH → Prop} {K46 : Nat → Nat → Int32 → Int32 → Int32 → JH → Prop} {r0 : Nat} {r1 : Nat} {x2 : Int32} {x3 : Int32} {x4 : Int32} {h : JH} (hK46 : ∀ (r0 : Nat) (r1 : Nat) (x2 : Int32) (x3 : Int32) (x4 : Int32) (h : JH), K46 r0 r1 x2 x3 x4 h → JW D (d + 1) mX28_check 46 [some (vR 22 r0), some (vR 6 r1), some (vI x2), some (vI x3), some (vI x4)] [] h Q) (w : W_X28_check_46 D d Q K46 r0 r1 x2 x3 x4 h) : JW D (d + 1) mX28_check 46 [some (vR 22 r0), some (vR 6 r1), some (vI x2), some (vI x3), some (vI x4)] [] h Q := by
  unfold W_X28_check_46 at w
  refine jw_iload (pc' := 48) rfl rfl ?_
  refine jw_aload_n (pc' := 49) rfl rfl ?_
  obtain ⟨g_1, w⟩ := w
  refine jw_getI (pc' := 52) (F := 112) rfl rfl rfl rfl g_1 ?_
  refine jw_icmp_ge (tgt := 73) (pc' := 55) rfl rfl (fun c_2 => ?_) (fun c_2 => ?_)
  · replace w := w.1 c_2
    refine jw_aload_n (pc' := 74) rfl rfl ?_
    refine jw_iload_n (pc' := 75) rfl rfl ?_
    obtain ⟨g_3, w⟩ := w
    obtain ⟨g_4, w⟩ := w
    refine jw_putI' (pc' := 78) (F := 52) rfl rfl rfl (Or.inr rfl) (Or.inl rfl) rfl (g_4.nr) (g_4.ft) rfl g_3 (fun h_5 e_6 => ?_)
    replace w := w h_5 e_6
    refine jw_iload_n (pc' := 79) rfl rfl ?_
    refine jw_if_ne (tgt := 88) (pc' := 82) rfl rfl (fun c_7 => ?_) (fun c_7 => ?_)
    · replace w := w.1 c_7
      refine jw_aload_n (pc' := 89) rfl rfl ?_
      refine jw_getI (pc' := 92) (F := 51) rfl rfl rfl rfl g_3 ?_
      refine jw_if_eq (tgt := 99) (pc' := 95) rfl rfl (fun c_8 => ?_) (fun c_8 => ?_)
      · replace w := w.1 c_8
        refine jw_gen (ls' := [none, none, none, none, none]) (st' := []) (trivial) (trivial) ?_
        exact w_X28_check_99 w
      · replace w := w.2 c_8
        refine jw_iload_n (pc' := 96) rfl rfl ?_
        refine jw_if_eq (tgt := 105) (pc' := 99) rfl rfl (fun c_9 => ?_) (fun c_9 => ?_)
        · replace w := w.1 c_9
          refine jw_aload_n (pc' := 106) rfl rfl ?_
          refine jw_getR (pc' := 109) (F := 113) (t' := 64) rfl rfl rfl rfl rfl g_1 ?_
          refine jw_ldcS (pc' := 111) rfl rfl rfl rfl ?_
          obtain ⟨g_10, w⟩ := w
          refine jw_cI (st := []) (sa := [vR 64 (jfr h_5 113 r0), vR 51 (jcs D 115)]) okJ5_equals rfl rfl rfl rfl rfl rfl (jstp_virtual (sa := [vR 51 (jcs D 115)]) (st := []) (k := 0) rfl rfl sJ5_equals okJ5_equals g_10 (one64.k g_10) rfl rfl) w (fun v_13 h_11 _ _ w => ?_)
          refine jw_if_eq (tgt := 132) (pc' := 117) rfl rfl (fun c_14 => ?_) (fun c_14 => ?_)
          · replace w := w.1 c_14
            refine jw_gen (ls' := [some (vR 22 r0), none, none, none, none]) (st' := []) (And.intro (Or.inl rfl) (trivial)) (trivial) ?_
            exact w_X28_check_132 w
          · replace w := w.2 c_14
            refine jw_aload_n (pc' := 118) rfl rfl ?_
            refine jw_getR (pc' := 121) (F := 111) (t' := 77) rfl rfl rfl rfl rfl g_1 ?_
            refine jw_iconst (pc' := 122) (x := (0 : Int32)) rfl rfl ?_
            obtain ⟨g_15, w⟩ := w
            obtain ⟨g_16, w⟩ := w
            refine jw_aald (pc' := 123) (t' := 55) rfl rfl rfl rfl g_15 g_16.ix g_16.2 ?_
            obtain ⟨g_17, w⟩ := w
            refine jw_getR (pc' := 126) (F := 109) (t' := 52) rfl rfl rfl rfl rfl g_17 ?_
            refine jw_getsR (pc' := 129) rfl rfl rfl rfl ?_
            refine jw_cV (st := []) (sa := [vR 52 (jfr h_11 109 (jar h_11 (jfr h_11 111 r0) (ixn (0 : Int32)))), vR 52 (jcs D 356)]) okX24_need rfl rfl rfl rfl rfl rfl (jstp_staticUp (sa := [vR 52 (jfr h_11 109 (jar h_11 (jfr h_11 111 r0) (ixn (0 : Int32)))), vR 52 (jcs D 356)]) (st := []) rfl (lw_g (jtb_mem (c := 10) (i := 151) rfl) rfl) (lw_g (jtb_mem (c := 10) (i := 152) rfl) rfl) rfl sX24_need okX24_need rfl rfl) w (fun h_18 _ _ w => ?_)
            refine jw_gen (ls' := [some (vR 22 r0), none, none, none, none]) (st' := []) (And.intro (Or.inl rfl) (trivial)) (trivial) ?_
            exact w_X28_check_132 w
        · replace w := w.2 c_9
          refine jw_gen (ls' := [none, none, none, none, none]) (st' := []) (trivial) (trivial) ?_
          exact w_X28_check_99 w
    · replace w := w.2 c_7
      refine jw_ldcS (pc' := 84) rfl rfl rfl rfl ?_
      refine jw_cR (st := []) (sa := [vR 51 (jcs D 170)]) okX1_fault rfl rfl rfl rfl rfl rfl (jstp_static (sa := [vR 51 (jcs D 170)]) (st := []) rfl rfl sX1_fault okX1_fault rfl rfl) w (fun v_23 h_21 _ _ _ w => ?_)
      obtain ⟨g_24, w⟩ := w
      exact jw_athrow rfl rfl g_24 w
  · replace w := w.2 c_2
    refine jw_aload_n (pc' := 56) rfl rfl ?_
    refine jw_getR (pc' := 59) (F := 111) (t' := 77) rfl rfl rfl rfl rfl g_1 ?_
    refine jw_iload (pc' := 61) rfl rfl ?_
    obtain ⟨g_25, w⟩ := w
    obtain ⟨g_26, w⟩ := w
    refine jw_aald (pc' := 62) (t' := 55) rfl rfl rfl rfl g_25 g_26.ix g_26.2 ?_
    refine jw_aload_n (pc' := 63) rfl rfl ?_
    obtain ⟨g_27, w⟩ := w
    refine JW.inv (fun hI => JW.oks (fun ho => ?_))
    have hkd := und55.k hI (ho (vR 55 (jar h (jfr h 111 r0) (ixn x4))) (by simp)) g_27
    simp only [List.mem_cons, List.not_mem_nil, or_false] at hkd
    clear ho hI
    rcases hkd with e_31 | e_31 | e_31 | e_31 | e_31 | e_31 | e_31 | e_31 | e_31 | e_31
    · refine jw_gen (ls' := _) (st' := [vR 6 r1, vR 20 (jar h (jfr h 111 r0) (ixn x4))]) (jgl_rf _ _) (And.intro (Or.inl rfl) (And.intro (Or.inr ⟨_, _, _, rfl, rfl, Or.inr (Or.inr (by rw [e_31]; rfl))⟩) (jgs_rf _ _))) ?_
      refine jw_cR (st := []) (sa := [vR 20 (jar h (jfr h 111 r0) (ixn x4)), vR 6 r1]) okX25_check rfl rfl rfl rfl rfl rfl (jstp_up (sa := [vR 6 r1]) (st := []) rfl (lw_g (jtb_mem (c := 10) (i := 50) rfl) rfl) um18 okX25_check g_27 (fun _ _ => by rw [e_31]; exact ⟨rfl, rfl⟩) rfl rfl) (w.1 e_31) (fun v_30 h_28 _ _ _ w => ?_)
      exact w_X28_check_66 hK46 w
    · refine jw_gen (ls' := _) (st' := [vR 6 r1, vR 21 (jar h (jfr h 111 r0) (ixn x4))]) (jgl_rf _ _) (And.intro (Or.inl rfl) (And.intro (Or.inr ⟨_, _, _, rfl, rfl, Or.inr (Or.inr (by rw [e_31]; rfl))⟩) (jgs_rf _ _))) ?_
      refine jw_cR (st := []) (sa := [vR 21 (jar h (jfr h 111 r0) (ixn x4)), vR 6 r1]) okX27_check rfl rfl rfl rfl rfl rfl (jstp_up (sa := [vR 6 r1]) (st := []) rfl (lw_g (jtb_mem (c := 10) (i := 50) rfl) rfl) um19 okX27_check g_27 (fun _ _ => by rw [e_31]; exact ⟨rfl, rfl⟩) rfl rfl) (w.2.1 e_31) (fun v_30 h_28 _ _ _ w => ?_)
      exact w_X28_check_66 hK46 w
    · refine jw_gen (ls' := _) (st' := [vR 6 r1, vR 22 (jar h (jfr h 111 r0) (ixn x4))]) (jgl_rf _ _) (And.intro (Or.inl rfl) (And.intro (Or.inr ⟨_, _, _, rfl, rfl, Or.inr (Or.inr (by rw [e_31]; rfl))⟩) (jgs_rf _ _))) ?_
      refine jw_cR (st := []) (sa := [vR 22 (jar h (jfr h 111 r0) (ixn x4)), vR 6 r1]) okX28_check rfl rfl rfl rfl rfl rfl (jstp_up (sa := [vR 6 r1]) (st := []) rfl (lw_g (jtb_mem (c := 10) (i := 50) rfl) rfl) um20 okX28_check g_27 (fun _ _ => by rw [e_31]; exact ⟨rfl, rfl⟩) rfl rfl) (w.2.2.1 e_31) (fun v_30 h_28 _ _ _ w => ?_)
      exact w_X28_check_66 hK46 w
    · refine jw_gen (ls' := _) (st' := [vR 6 r1, vR 23 (jar h (jfr h 111 r0) (ixn x4))]) (jgl_rf _ _) (And.intro (Or.inl rfl) (And.intro (Or.inr ⟨_, _, _, rfl, rfl, Or.inr (Or.inr (by rw [e_31]; rfl))⟩) (jgs_rf _ _))) ?_
      refine jw_cR (st := []) (sa := [vR 23 (jar h (jfr h 111 r0) (ixn x4)), vR 6 r1]) okX29_check rfl rfl rfl rfl rfl rfl (jstp_up (sa := [vR 6 r1]) (st := []) rfl (lw_g (jtb_mem (c := 10) (i := 50) rfl) rfl) um21 okX29_check g_27 (fun _ _ => by rw [e_31]; exact ⟨rfl, rfl⟩) rfl rfl) (w.2.2.2.1 e_31) (fun v_30 h_28 _ _ _ w => ?_)
      exact w_X28_check_66 hK46 w
    · refine jw_gen (ls' := _) (st' := [vR 6 r1, vR 24 (jar h (jfr h 111 r0) (ixn x4))]) (jgl_rf _ _) (And.intro (Or.inl rfl) (And.intro (Or.inr ⟨_, _, _, rfl, rfl, Or.inr (Or.inr (by rw [e_31]; rfl))⟩) (jgs_rf _ _))) ?_
      refine jw_cR (st := []) (sa := [vR 24 (jar h (jfr h 111 r0) (ixn x4)), vR 6 r1]) okX30_check rfl rfl rfl rfl rfl rfl (jstp_up (sa := [vR 6 r1]) (st := []) rfl (lw_g (jtb_mem (c := 10) (i := 50) rfl) rfl) um22 okX30_check g_27 (fun _ _ => by rw [e_31]; exact ⟨rfl, rfl⟩) rfl rfl) (w.2.2.2.2.1 e_31) (fun v_30 h_28 _ _ _ w => ?_)
      exact w_X28_check_66 hK46 w
    · refine jw_gen (ls' := _) (st' := [vR 6 r1, vR 25 (jar h (jfr h 111 r0) (ixn x4))]) (jgl_rf _ _) (And.intro (Or.inl rfl) (And.intro (Or.inr ⟨_, _, _, rfl, rfl, Or.inr (Or.inr (by rw [e_31]; rfl))⟩) (jgs_rf _ _))) ?_
      refine jw_cR (st := []) (sa := [vR 25 (jar h (jfr h 111 r0) (ixn x4)), vR 6 r1]) okX31_check rfl rfl rfl rfl rfl rfl (jstp_up (sa := [vR 6 r1]) (st := []) rfl (lw_g (jtb_mem (c := 10) (i := 50) rfl) rfl) um23 okX31_check g_27 (fun _ _ => by rw [e_31]; exact ⟨rfl, rfl⟩) rfl rfl) (w.2.2.2.2.2.1 e_31) (fun v_30 h_28 _ _ _ w => ?_)
      exact w_X28_check_66 hK46 w
    · refine jw_gen (ls' := _) (st' := [vR 6 r1, vR 26 (jar h (jfr h 111 r0) (ixn x4))]) (jgl_rf _ _) (And.intro (Or.inl rfl) (And.intro (Or.inr ⟨_, _, _, rfl, rfl, Or.inr (Or.inr (by rw [e_31]; rfl))⟩) (jgs_rf _ _))) ?_
      refine jw_cR (st := []) (sa := [vR 26 (jar h (jfr h 111 r0) (ixn x4)), vR 6 r1]) okX32_check rfl rfl rfl rfl rfl rfl (jstp_up (sa := [vR 6 r1]) (st := []) rfl (lw_g (jtb_mem (c := 10) (i := 50) rfl) rfl) um24 okX32_check g_27 (fun _ _ => by rw [e_31]; exact ⟨rfl, rfl⟩) rfl rfl) (w.2.2.2.2.2.2.1 e_31) (fun v_30 h_28 _ _ _ w => ?_)
      exact w_X28_check_66 hK46 w
    · refine jw_gen (ls' := _) (st' := [vR 6 r1, vR 27 (jar h (jfr h 111 r0) (ixn x4))]) (jgl_rf _ _) (And.intro (Or.inl rfl) (And.intro (Or.inr ⟨_, _, _, rfl, rfl, Or.inr (Or.inr (by rw [e_31]; rfl))⟩) (jgs_rf _ _))) ?_
      refine jw_cR (st := []) (sa := [vR 27 (jar h (jfr h 111 r0) (ixn x4)), vR 6 r1]) okX33_check rfl rfl rfl rfl rfl rfl (jstp_up (sa := [vR 6 r1]) (st := []) rfl (lw_g (jtb_mem (c := 10) (i := 50) rfl) rfl) um25 okX33_check g_27 (fun _ _ => by rw [e_31]; exact ⟨rfl, rfl⟩) rfl rfl) (w.2.2.2.2.2.2.2.1 e_31) (fun v_30 h_28 _ _ _ w => ?_)
      exact w_X28_check_66 hK46 w
    · refine jw_gen (ls' := _) (st' := [vR 6 r1, vR 28 (jar h (jfr h 111 r0) (ixn x4))]) (jgl_rf _ _) (And.intro (Or.inl rfl) (And.intro (Or.inr ⟨_, _, _, rfl, rfl, Or.inr (Or.inr (by rw [e_31]; rfl))⟩) (jgs_rf _ _))) ?_
      refine jw_cR (st := []) (sa := [vR 28 (jar h (jfr h 111 r0) (ixn x4)), vR 6 r1]) okX34_check rfl rfl rfl rfl rfl rfl (jstp_up (sa := [vR 6 r1]) (st := []) rfl (lw_g (jtb_mem (c := 10) (i := 50) rfl) rfl) um26 okX34_check g_27 (fun _ _ => by rw [e_31]; exact ⟨rfl, rfl⟩) rfl rfl) (w.2.2.2.2.2.2.2.2.1 e_31) (fun v_30 h_28 _ _ _ w => ?_)
      exact w_X28_check_66 hK46 w
    · refine jw_gen (ls' := _) (st' := [vR 6 r1, vR 29 (jar h (jfr h 111 r0) (ixn x4))]) (jgl_rf _ _) (And.intro (Or.inl rfl) (And.intro (Or.inr ⟨_, _, _, rfl, rfl, Or.inr (Or.inr (by rw [e_31]; rfl))⟩) (jgs_rf _ _))) ?_
      refine jw_cR (st := []) (sa := [vR 29 (jar h (jfr h 111 r0) (ixn x4)), vR 6 r1]) okX35_check rfl rfl rfl rfl rfl rfl (jstp_up (sa := [vR 6 r1]) (st := []) rfl (lw_g (jtb_mem (c := 10) (i := 50) rfl) rfl) um27 okX35_check g_27 (fun _ _ => by rw [e_31]; exact ⟨rfl, rfl⟩) rfl rfl) (w.2.2.2.2.2.2.2.2.2 e_31) (fun v_30 h_28 _ _ _ w => ?_)
      exact w_X28_check_66 hK46 w
def L_X28_check_46 (D : JD) (d : Nat) (Q : JO → JH → Prop) : Nat → Nat → Nat → Int32 → Int32 → Int32 → JH → Prop
  | 0 => fun _ _ _ _ _ _ => False
  | n + 1 => fun r0 r1 x2 x3 x4 h => W_X28_check_46 D d Q (L_X28_check_46 D d Q n) r0 r1 x2 x3 x4 h
theorem l_X28_check_46 {D : JD} {d : Nat} {Q : JO → JH → Prop} : ∀ (n : Nat) (r0 : Nat) (r1 : Nat) (x2 : Int32) (x3 : Int32) (x4 : Int32) (h : JH), L_X28_check_46 D d Q n r0 r1 x2 x3 x4 h → JW D (d + 1) mX28_check 46 [some (vR 22 r0), some (vR 6 r1), some (vI x2), some (vI x3), some (vI x4)] [] h Q := by
  intro n
  induction n with
  | zero => intro _ _ _ _ _ _ w; exact w.elim
  | succ n ih => intro _ _ _ _ _ h w; exact w_X28_check_46 ih w
def W_X28_check_32 (D : JD) (d : Nat) (Q : JO → JH → Prop) (r0 : Nat) (r1 : Nat) (s0 : Int32) (h : JH) : Prop :=
  r1 ≠ 0 ∧ (∀ h_2 : JH, h_2 = wfi h 52 r1 (1 : Int32) → (∃ n, L_X28_check_46 D d Q n r0 r1 s0 (jfi h 52 r1) (0 : Int32) h_2))
theorem w_X28_check_32 {D : JD} {d : Nat} {Q : JO → JH → Prop} {r0 : Nat} {r1 : Nat} {s0 : Int32} {h : JH} (w : W_X28_check_32 D d Q r0 r1 s0 h) : JW D (d + 1) mX28_check 32 [some (vR 22 r0), some (vR 6 r1), none, none, none] [vI s0] h Q := by
  unfold W_X28_check_32 at w
  refine jw_istore_n (pc' := 33) (ls' := [some (vR 22 r0), some (vR 6 r1), some (vI s0), none, none]) rfl (by decide) rfl ?_
  refine jw_aload_n (pc' := 34) rfl rfl ?_
  obtain ⟨g_1, w⟩ := w
  refine jw_getI (pc' := 37) (F := 52) rfl rfl rfl rfl g_1 ?_
  refine jw_istore_n (pc' := 38) (ls' := [some (vR 22 r0), some (vR 6 r1), some (vI s0), some (vI (jfi h 52 r1)), none]) rfl (by decide) rfl ?_
  refine jw_aload_n (pc' := 39) rfl rfl ?_
  refine jw_iconst (pc' := 40) (x := (1 : Int32)) rfl rfl ?_
  refine jw_putI' (pc' := 43) (F := 52) rfl rfl rfl (Or.inr rfl) (Or.inl rfl) rfl (rfl) (rfl) rfl g_1 (fun h_2 e_3 => ?_)
  replace w := w h_2 e_3
  refine jw_iconst (pc' := 44) (x := (0 : Int32)) rfl rfl ?_
  refine jw_istore (pc' := 46) (ls' := [some (vR 22 r0), some (vR 6 r1), some (vI s0), some (vI (jfi h 52 r1)), some (vI (0 : Int32))]) rfl (by decide) rfl ?_
  obtain ⟨n, w⟩ := w
  exact l_X28_check_46 n _ _ _ _ _ _ w
def W_X28_check_0 (D : JD) (d : Nat) (Q : JO → JH → Prop) (r0 : Nat) (r1 : Nat) (h : JH) : Prop :=
  r0 ≠ 0 ∧ (((jfi h 114 r0) = 0 → (¬ (jfi h 112 r0) = (1 : Int32) → W_X28_check_32 D d Q r0 r1 (0 : Int32) h) ∧ ((jfi h 112 r0) = (1 : Int32) → W_X28_check_32 D d Q r0 r1 (1 : Int32) h)) ∧ (¬ (jfi h 114 r0) = 0 → (jfr h 113 r0) ≠ 0 ∧ (cJ5_equals D d (jfr h 113 r0) (jcs D 114) h (pI D h (fun v_7 h_5 => W_X28_check_32 D d Q r0 r1 v_7 h_5) (jth Q)))))
theorem w_X28_check_0 {D : JD} {d : Nat} {Q : JO → JH → Prop} {r0 : Nat} {r1 : Nat} {h : JH} (w : W_X28_check_0 D d Q r0 r1 h) : JW D (d + 1) mX28_check 0 [some (vR 22 r0), some (vR 6 r1), none, none, none] [] h Q := by
  unfold W_X28_check_0 at w
  refine jw_aload_n (pc' := 1) rfl rfl ?_
  obtain ⟨g_1, w⟩ := w
  refine jw_getI (pc' := 4) (F := 114) rfl rfl rfl rfl g_1 ?_
  refine jw_if_eq (tgt := 19) (pc' := 7) rfl rfl (fun c_2 => ?_) (fun c_2 => ?_)
  · replace w := w.1 c_2
    refine jw_aload_n (pc' := 20) rfl rfl ?_
    refine jw_getI (pc' := 23) (F := 112) rfl rfl rfl rfl g_1 ?_
    refine jw_iconst (pc' := 24) (x := (1 : Int32)) rfl rfl ?_
    refine jw_icmp_ne (tgt := 31) (pc' := 27) rfl rfl (fun c_3 => ?_) (fun c_3 => ?_)
    · replace w := w.1 c_3
      refine jw_iconst (pc' := 32) (x := (0 : Int32)) rfl rfl ?_
      exact w_X28_check_32 w
    · replace w := w.2 c_3
      refine jw_iconst (pc' := 28) (x := (1 : Int32)) rfl rfl ?_
      refine jw_goto (pc' := 32) rfl rfl ?_
      exact w_X28_check_32 w
  · replace w := w.2 c_2
    refine jw_aload_n (pc' := 8) rfl rfl ?_
    refine jw_getR (pc' := 11) (F := 113) (t' := 64) rfl rfl rfl rfl rfl g_1 ?_
    refine jw_ldcS (pc' := 13) rfl rfl rfl rfl ?_
    obtain ⟨g_4, w⟩ := w
    refine jw_cI (st := []) (sa := [vR 64 (jfr h 113 r0), vR 51 (jcs D 114)]) okJ5_equals rfl rfl rfl rfl rfl rfl (jstp_virtual (sa := [vR 51 (jcs D 114)]) (st := []) (k := 0) rfl rfl sJ5_equals okJ5_equals g_4 (one64.k g_4) rfl rfl) w (fun v_7 h_5 _ _ w => ?_)
    refine jw_goto (pc' := 32) rfl rfl ?_
    exact w_X28_check_32 w
def T_X28_check (D : JD) (d : Nat) (Q : JO → JH → Prop) (r0 : Nat) (r1 : Nat) (h : JH) : Prop := W_X28_check_0 D d Q r0 r1 h
theorem t_X28_check {D : JD} {d : Nat} {Q : JO → JH → Prop} {r0 : Nat} {r1 : Nat} {h : JH} (w : T_X28_check D d Q r0 r1 h) : cX28_check D (d + 1) r0 r1 h Q := by
  unfold T_X28_check at w
  unfold cX28_check
  exact w_X28_check_0 w
def W_X28_aggregates_0 (D : JD) (d : Nat) (Q : JO → JH → Prop) (r0 : Nat) (h : JH) : Prop :=
  r0 ≠ 0 ∧ (cX28_known D d (jfr h 113 r0) h (pI D h (fun v_4 h_2 => jbo v_4 ∧ (Q (.inl (some (vI v_4))) h_2)) (jth Q)))
theorem w_X28_aggregates_0 {D : JD} {d : Nat} {Q : JO → JH → Prop} {r0 : Nat} {h : JH} (w : W_X28_aggregates_0 D d Q r0 h) : JW D (d + 1) mX28_aggregates 0 [some (vR 22 r0)] [] h Q := by
  unfold W_X28_aggregates_0 at w
  refine jw_aload_n (pc' := 1) rfl rfl ?_
  obtain ⟨g_1, w⟩ := w
  refine jw_getR (pc' := 4) (F := 113) (t' := 64) rfl rfl rfl rfl rfl g_1 ?_
  refine jw_cI (st := []) (sa := [vR 64 (jfr h 113 r0)]) okX28_known rfl rfl rfl rfl rfl rfl (jstp_static (sa := [vR 64 (jfr h 113 r0)]) (st := []) rfl rfl sX28_known okX28_known rfl rfl) w (fun v_4 h_2 _ _ w => ?_)
  obtain ⟨g_5, w⟩ := w
  exact jw_ireturn rfl rfl (g_5.nr) w
def T_X28_aggregates (D : JD) (d : Nat) (Q : JO → JH → Prop) (r0 : Nat) (h : JH) : Prop := W_X28_aggregates_0 D d Q r0 h
theorem t_X28_aggregates {D : JD} {d : Nat} {Q : JO → JH → Prop} {r0 : Nat} {h : JH} (w : T_X28_aggregates D d Q r0 h) : cX28_aggregates D (d + 1) r0 h Q := by
  unfold T_X28_aggregates at w
  unfold cX28_aggregates
  exact w_X28_aggregates_0 w
def W_X28_like_51 (D : JD) (d : Nat) (Q : JO → JH → Prop) (s0 : Int32) (h : JH) : Prop :=
  jbo s0 ∧ (Q (.inl (some (vI s0))) h)
theorem w_X28_like_51 {D : JD} {d : Nat} {Q : JO → JH → Prop} {s0 : Int32} {h : JH} (w : W_X28_like_51 D d Q s0 h) : JW D (d + 1) mX28_like 51 [none, none] [vI s0] h Q := by
  unfold W_X28_like_51 at w
  obtain ⟨g_1, w⟩ := w
  exact jw_ireturn rfl rfl (g_1.nr) w
def W_X28_like_50 (D : JD) (d : Nat) (Q : JO → JH → Prop) (h : JH) : Prop :=
  W_X28_like_51 D d Q (0 : Int32) h
theorem w_X28_like_50 {D : JD} {d : Nat} {Q : JO → JH → Prop} {h : JH} (w : W_X28_like_50 D d Q h) : JW D (d + 1) mX28_like 50 [none, none] [] h Q := by
  unfold W_X28_like_50 at w
  refine jw_iconst (pc' := 51) (x := (0 : Int32)) rfl rfl ?_
  exact w_X28_like_51 w
def W_X28_like_0 (D : JD) (d : Nat) (Q : JO → JH → Prop) (r0 : Nat) (r1 : Nat) (h : JH) : Prop :=
  ((r1 ≠ 0 ∧ jkd h r1 = 22) → (r1 = 0 ∨ jkd h r1 = 22) ∧ (r1 ≠ 0 ∧ (r0 ≠ 0 ∧ ((jfr h 113 r1) ≠ 0 ∧ (cJ5_equals D d (jfr h 113 r1) (jfr h 113 r0) h (pI D h (fun v_9 h_7 => (v_9 = 0 → W_X28_like_50 D d Q h_7) ∧ (¬ v_9 = 0 → (r1 = 0 ∨ jkd h_7 r1 = 22) ∧ ((¬ (jfi h_7 114 r1) = (jfi h_7 114 r0) → W_X28_like_50 D d Q h_7) ∧ ((jfi h_7 114 r1) = (jfi h_7 114 r0) → cX24_likeParts D d r0 r1 h_7 (pI D h_7 (fun v_15 h_13 => (v_15 = 0 → W_X28_like_50 D d Q h_13) ∧ (¬ v_15 = 0 → W_X28_like_51 D d Q (1 : Int32) h_13)) (jth Q)))))) (jth Q))))))) ∧ (¬ (r1 ≠ 0 ∧ jkd h r1 = 22) → W_X28_like_50 D d Q h)
theorem w_X28_like_0 {D : JD} {d : Nat} {Q : JO → JH → Prop} {r0 : Nat} {r1 : Nat} {h : JH} (w : W_X28_like_0 D d Q r0 r1 h) : JW D (d + 1) mX28_like 0 [some (vR 22 r0), some (vR 55 r1)] [] h Q := by
  unfold W_X28_like_0 at w
  refine jw_aload_n (pc' := 1) rfl rfl ?_
  refine jw_inst (pc' := 4) (t := 55) (kt := 22) rfl rfl rfl rfl (by decide +kernel) (fun c_1 => ?_) (fun c_1 => ?_)
  · replace w := w.1 c_1
    refine jw_if_eq (tgt := 50) (pc' := 7) rfl rfl (fun c_2 => absurd c_2 (by decide)) (fun _ => ?_)
    refine jw_aload_n (pc' := 8) rfl rfl ?_
    obtain ⟨g_3, w⟩ := w
    refine jw_cast (pc' := 11) (t2 := 22) rfl rfl rfl rfl g_3 ?_
    obtain ⟨g_4, w⟩ := w
    refine jw_getR (pc' := 14) (F := 113) (t' := 64) rfl rfl rfl rfl rfl g_4 ?_
    refine jw_aload_n (pc' := 15) rfl rfl ?_
    obtain ⟨g_5, w⟩ := w
    refine jw_getR (pc' := 18) (F := 113) (t' := 64) rfl rfl rfl rfl rfl g_5 ?_
    obtain ⟨g_6, w⟩ := w
    refine jw_cI (st := []) (sa := [vR 64 (jfr h 113 r1), vR 64 (jfr h 113 r0)]) okJ5_equals rfl rfl rfl rfl rfl rfl (jstp_virtual (sa := [vR 64 (jfr h 113 r0)]) (st := []) (k := 0) rfl rfl sJ5_equals okJ5_equals g_6 (one64.k g_6) rfl rfl) w (fun v_9 h_7 _ _ w => ?_)
    refine jw_if_eq (tgt := 50) (pc' := 24) rfl rfl (fun c_10 => ?_) (fun c_10 => ?_)
    · replace w := w.1 c_10
      refine jw_gen (ls' := [none, none]) (st' := []) (trivial) (trivial) ?_
      exact w_X28_like_50 w
    · replace w := w.2 c_10
      refine jw_aload_n (pc' := 25) rfl rfl ?_
      obtain ⟨g_11, w⟩ := w
      refine jw_cast (pc' := 28) (t2 := 22) rfl rfl rfl rfl g_11 ?_
      refine jw_getI (pc' := 31) (F := 114) rfl rfl rfl rfl g_4 ?_
      refine jw_aload_n (pc' := 32) rfl rfl ?_
      refine jw_getI (pc' := 35) (F := 114) rfl rfl rfl rfl g_5 ?_
      refine jw_icmp_ne (tgt := 50) (pc' := 38) rfl rfl (fun c_12 => ?_) (fun c_12 => ?_)
      · replace w := w.1 c_12
        refine jw_gen (ls' := [none, none]) (st' := []) (trivial) (trivial) ?_
        exact w_X28_like_50 w
      · replace w := w.2 c_12
        refine jw_aload_n (pc' := 39) rfl rfl ?_
        refine jw_aload_n (pc' := 40) rfl rfl ?_
        refine jw_cI (st := []) (sa := [vR 22 r0, vR 55 r1]) okX24_likeParts rfl rfl rfl rfl rfl rfl (jstp_up (sa := [vR 55 r1]) (st := []) rfl (lw_g (jtb_mem (c := 11) (i := 34) rfl) rfl) um99 okX24_likeParts g_5 (one22.k g_5) rfl rfl) w (fun v_15 h_13 _ _ w => ?_)
        refine jw_if_eq (tgt := 50) (pc' := 46) rfl rfl (fun c_16 => ?_) (fun c_16 => ?_)
        · replace w := w.1 c_16
          refine jw_gen (ls' := [none, none]) (st' := []) (trivial) (trivial) ?_
          exact w_X28_like_50 w
        · replace w := w.2 c_16
          refine jw_iconst (pc' := 47) (x := (1 : Int32)) rfl rfl ?_
          refine jw_goto (pc' := 51) rfl rfl ?_
          refine jw_gen (ls' := [none, none]) (st' := [vI (1 : Int32)]) (trivial) (And.intro (Or.inl rfl) (trivial)) ?_
          exact w_X28_like_51 w
  · replace w := w.2 c_1
    refine jw_if_eq (tgt := 50) (pc' := 7) rfl rfl (fun _ => ?_) (fun c_17 => absurd c_17 (by decide))
    refine jw_gen (ls' := [none, none]) (st' := []) (trivial) (trivial) ?_
    exact w_X28_like_50 w
def T_X28_like (D : JD) (d : Nat) (Q : JO → JH → Prop) (r0 : Nat) (r1 : Nat) (h : JH) : Prop := W_X28_like_0 D d Q r0 r1 h
theorem t_X28_like {D : JD} {d : Nat} {Q : JO → JH → Prop} {r0 : Nat} {r1 : Nat} {h : JH} (w : T_X28_like D d Q r0 r1 h) : cX28_like D (d + 1) r0 r1 h Q := by
  unfold T_X28_like at w
  unfold cX28_like
  exact w_X28_like_0 w
def W_X28_ungrouped_0 (D : JD) (d : Nat) (Q : JO → JH → Prop) (h : JH) : Prop :=
  Q (.inl none) h
theorem w_X28_ungrouped_0 {D : JD} {d : Nat} {Q : JO → JH → Prop} {h : JH} (w : W_X28_ungrouped_0 D d Q h) : JW D (d + 1) mX28_ungrouped 0 [none, none] [] h Q := by
  unfold W_X28_ungrouped_0 at w
  exact jw_return rfl rfl w
def T_X28_ungrouped (D : JD) (d : Nat) (Q : JO → JH → Prop) (r0 : Nat) (r1 : Nat) (h : JH) : Prop := W_X28_ungrouped_0 D d Q h
theorem t_X28_ungrouped {D : JD} {d : Nat} {Q : JO → JH → Prop} {r0 : Nat} {r1 : Nat} {h : JH} (w : T_X28_ungrouped D d Q r0 r1 h) : cX28_ungrouped D (d + 1) r0 r1 h Q := by
  unfold T_X28_ungrouped at w
  unfold cX28_ungrouped
  refine jw_gen (ls' := [none, none]) (st' := []) (trivial) (trivial) ?_
  exact w_X28_ungrouped_0 w
def W_X28_title_0 (D : JD) (d : Nat) (Q : JO → JH → Prop) (r0 : Nat) (h : JH) : Prop :=
  r0 ≠ 0 ∧ (Q (.inl (some (vR 64 (jfr h 113 r0)))) h)
theorem w_X28_title_0 {D : JD} {d : Nat} {Q : JO → JH → Prop} {r0 : Nat} {h : JH} (w : W_X28_title_0 D d Q r0 h) : JW D (d + 1) mX28_title 0 [some (vR 22 r0)] [] h Q := by
  unfold W_X28_title_0 at w
  refine jw_aload_n (pc' := 1) rfl rfl ?_
  obtain ⟨g_1, w⟩ := w
  refine jw_getR (pc' := 4) (F := 113) (t' := 64) rfl rfl rfl rfl rfl g_1 ?_
  exact jw_areturn rfl rfl rfl rfl rfl w
def T_X28_title (D : JD) (d : Nat) (Q : JO → JH → Prop) (r0 : Nat) (h : JH) : Prop := W_X28_title_0 D d Q r0 h
theorem t_X28_title {D : JD} {d : Nat} {Q : JO → JH → Prop} {r0 : Nat} {h : JH} (w : T_X28_title D d Q r0 h) : cX28_title D (d + 1) r0 h Q := by
  unfold T_X28_title at w
  unfold cX28_title
  exact w_X28_title_0 w
def W_X28_at_253 (D : JD) (d : Nat) (Q : JO → JH → Prop) (q0 : Nat) (h : JH) : Prop :=
  Q (.inl (some (vR 8 q0))) h
theorem w_X28_at_253 {D : JD} {d : Nat} {Q : JO → JH → Prop} {q0 : Nat} {h : JH} (w : W_X28_at_253 D d Q q0 h) : JW D (d + 1) mX28_at 253 [none, none, none, none, none, none] [vR 8 q0] h Q := by
  unfold W_X28_at_253 at w
  exact jw_areturn rfl rfl rfl rfl rfl w
def W_X28_at_219 (D : JD) (d : Nat) (Q : JO → JH → Prop) (r0 : Nat) (y2 : Int64) (h : JH) : Prop :=
  r0 ≠ 0 ∧ ((jfr h 113 r0) ≠ 0 ∧ (cJ5_equals D d (jfr h 113 r0) (jcs D 114) h (pI D h (fun v_5 h_3 => (v_5 = 0 → (jfr h_3 108 r0) ≠ 0 ∧ (cX14_copy D d (jfr h_3 108 r0) (jfr h_3 115 r0) h_3 (pR D h_3 8 (fun v_10 h_8 => W_X28_at_253 D d Q v_10 h_8) (jth Q)))) ∧ (¬ v_5 = 0 → (jfr h_3 108 r0) ≠ 0 ∧ (cX14_number D d (jfr h_3 108 r0) y2 h_3 (pR D h_3 8 (fun v_14 h_12 => W_X28_at_253 D d Q v_14 h_12) (jth Q))))) (jth Q))))
theorem w_X28_at_219 {D : JD} {d : Nat} {Q : JO → JH → Prop} {r0 : Nat} {y2 : Int64} {h : JH} (w : W_X28_at_219 D d Q r0 y2 h) : JW D (d + 1) mX28_at 219 [some (vR 22 r0), none, some (vL y2), none, none, none] [] h Q := by
  unfold W_X28_at_219 at w
  refine jw_aload_n (pc' := 220) rfl rfl ?_
  obtain ⟨g_1, w⟩ := w
  refine jw_getR (pc' := 223) (F := 113) (t' := 64) rfl rfl rfl rfl rfl g_1 ?_
  refine jw_ldcS (pc' := 225) rfl rfl rfl rfl ?_
  obtain ⟨g_2, w⟩ := w
  refine jw_cI (st := []) (sa := [vR 64 (jfr h 113 r0), vR 51 (jcs D 114)]) okJ5_equals rfl rfl rfl rfl rfl rfl (jstp_virtual (sa := [vR 51 (jcs D 114)]) (st := []) (k := 0) rfl rfl sJ5_equals okJ5_equals g_2 (one64.k g_2) rfl rfl) w (fun v_5 h_3 _ _ w => ?_)
  refine jw_if_eq (tgt := 242) (pc' := 231) rfl rfl (fun c_6 => ?_) (fun c_6 => ?_)
  · replace w := w.1 c_6
    refine jw_aload_n (pc' := 243) rfl rfl ?_
    refine jw_getR (pc' := 246) (F := 108) (t' := 98) rfl rfl rfl rfl rfl g_1 ?_
    refine jw_aload_n (pc' := 247) rfl rfl ?_
    refine jw_getR (pc' := 250) (F := 115) (t' := 99) rfl rfl rfl rfl rfl g_1 ?_
    obtain ⟨g_7, w⟩ := w
    refine jw_cR (st := []) (sa := [vR 98 (jfr h_3 108 r0), vR 99 (jfr h_3 115 r0)]) okX14_copy rfl rfl rfl rfl rfl rfl (jstp_virtual (sa := [vR 99 (jfr h_3 115 r0)]) (st := []) (k := 0) rfl rfl sX14_copy okX14_copy g_7 (one98.k g_7) rfl rfl) w (fun v_10 h_8 _ _ _ w => ?_)
    refine jw_gen (ls' := [none, none, none, none, none, none]) (st' := [vR 8 v_10]) (trivial) (And.intro (Or.inl rfl) (trivial)) ?_
    exact w_X28_at_253 w
  · replace w := w.2 c_6
    refine jw_aload_n (pc' := 232) rfl rfl ?_
    refine jw_getR (pc' := 235) (F := 108) (t' := 98) rfl rfl rfl rfl rfl g_1 ?_
    refine jw_lload_n (pc' := 236) rfl rfl ?_
    obtain ⟨g_11, w⟩ := w
    refine jw_cR (st := []) (sa := [vR 98 (jfr h_3 108 r0), vL y2]) okX14_number rfl rfl rfl rfl rfl rfl (jstp_virtual (sa := [vL y2]) (st := []) (k := 0) rfl rfl sX14_number okX14_number g_11 (one98.k g_11) rfl rfl) w (fun v_14 h_12 _ _ _ w => ?_)
    refine jw_goto (pc' := 253) rfl rfl ?_
    refine jw_gen (ls' := [none, none, none, none, none, none]) (st' := [vR 8 v_14]) (trivial) (And.intro (Or.inl rfl) (trivial)) ?_
    exact w_X28_at_253 w
def W_X28_at_193 (D : JD) (d : Nat) (Q : JO → JH → Prop) (K13 : Nat → Nat → Int64 → Int32 → JH → Prop) (r0 : Nat) (r1 : Nat) (y2 : Int64) (x4 : Int32) (h : JH) : Prop :=
  K13 r0 r1 y2 (x4 + (1 : Int32)) h
theorem w_X28_at_193 {D : JD} {d : Nat} {Q : JO → JH → Prop} {K13 : Nat → Nat → Int64 → Int32 → JH → Prop} {r0 : Nat} {r1 : Nat} {y2 : Int64} {x4 : Int32} {h : JH} (hK13 : ∀ (r0 : Nat) (r1 : Nat) (y2 : Int64) (x4 : Int32) (h : JH), K13 r0 r1 y2 x4 h → JW D (d + 1) mX28_at 13 [some (vR 22 r0), some (vR 6 r1), some (vL y2), none, some (vI x4), none] [] h Q) (w : W_X28_at_193 D d Q K13 r0 r1 y2 x4 h) : JW D (d + 1) mX28_at 193 [some (vR 22 r0), some (vR 6 r1), some (vL y2), none, some (vI x4), none] [] h Q := by
  unfold W_X28_at_193 at w
  refine jw_iinc (pc' := 196) (y := x4 + (1 : Int32)) (ls' := [some (vR 22 r0), some (vR 6 r1), some (vL y2), none, some (vI (x4 + (1 : Int32))), none]) rfl (by decide) rfl rfl rfl ?_
  refine jw_goto (pc' := 13) rfl rfl ?_
  exact hK13 _ _ _ _ _ w
def W_X28_at_183 (D : JD) (d : Nat) (Q : JO → JH → Prop) (K13 : Nat → Nat → Int64 → Int32 → JH → Prop) (r0 : Nat) (r1 : Nat) (y2 : Int64) (x4 : Int32) (r5 : Nat) (h : JH) : Prop :=
  r0 ≠ 0 ∧ ((jfr h 115 r0) ≠ 0 ∧ (cX14_copy D d (jfr h 115 r0) r5 h (pR D h 8 (fun v_5 h_3 => W_X28_at_193 D d Q K13 r0 r1 y2 x4 h_3) (jth Q))))
theorem w_X28_at_183 {D : JD} {d : Nat} {Q : JO → JH → Prop} {K13 : Nat → Nat → Int64 → Int32 → JH → Prop} {r0 : Nat} {r1 : Nat} {y2 : Int64} {x4 : Int32} {r5 : Nat} {h : JH} (hK13 : ∀ (r0 : Nat) (r1 : Nat) (y2 : Int64) (x4 : Int32) (h : JH), K13 r0 r1 y2 x4 h → JW D (d + 1) mX28_at 13 [some (vR 22 r0), some (vR 6 r1), some (vL y2), none, some (vI x4), none] [] h Q) (w : W_X28_at_183 D d Q K13 r0 r1 y2 x4 r5 h) : JW D (d + 1) mX28_at 183 [some (vR 22 r0), some (vR 6 r1), some (vL y2), none, some (vI x4), some (vR 8 r5)] [] h Q := by
  unfold W_X28_at_183 at w
  refine jw_aload_n (pc' := 184) rfl rfl ?_
  obtain ⟨g_1, w⟩ := w
  refine jw_getR (pc' := 187) (F := 115) (t' := 99) rfl rfl rfl rfl rfl g_1 ?_
  refine jw_aload (pc' := 189) rfl rfl ?_
  obtain ⟨g_2, w⟩ := w
  refine jw_cR (st := []) (sa := [vR 99 (jfr h 115 r0), vR 8 r5]) okX14_copy rfl rfl rfl rfl rfl rfl (jstp_virtual (sa := [vR 8 r5]) (st := []) (k := 0) rfl rfl sX14_copy okX14_copy g_2 (one99.k g_2) rfl rfl) w (fun v_5 h_3 _ _ _ w => ?_)
  refine jw_pop (pc' := 193) rfl rfl ?_
  refine jw_gen (ls' := [some (vR 22 r0), some (vR 6 r1), some (vL y2), none, some (vI x4), none]) (st' := []) (And.intro (Or.inl rfl) (And.intro (Or.inl rfl) (And.intro (Or.inl rfl) (And.intro (Or.inl rfl) (trivial))))) (trivial) ?_
  exact w_X28_at_193 hK13 w
def W_X28_at_159 (D : JD) (d : Nat) (Q : JO → JH → Prop) (K13 : Nat → Nat → Int64 → Int32 → JH → Prop) (r0 : Nat) (r1 : Nat) (y2 : Int64) (x4 : Int32) (r5 : Nat) (h : JH) : Prop :=
  r0 ≠ 0 ∧ ((jfr h 113 r0) ≠ 0 ∧ (cJ5_equals D d (jfr h 113 r0) (jcs D 117) h (pI D h (fun v_5 h_3 => (v_5 = 0 → W_X28_at_193 D d Q K13 r0 r1 y2 x4 h_3) ∧ (¬ v_5 = 0 → r5 ≠ 0 ∧ (cX14_order D d r5 (jfr h_3 115 r0) h_3 (pI D h_3 (fun v_10 h_8 => (v_10 ≤ 0 → W_X28_at_193 D d Q K13 r0 r1 y2 x4 h_8) ∧ (¬ v_10 ≤ 0 → W_X28_at_183 D d Q K13 r0 r1 y2 x4 r5 h_8)) (jth Q))))) (jth Q))))
theorem w_X28_at_159 {D : JD} {d : Nat} {Q : JO → JH → Prop} {K13 : Nat → Nat → Int64 → Int32 → JH → Prop} {r0 : Nat} {r1 : Nat} {y2 : Int64} {x4 : Int32} {r5 : Nat} {h : JH} (hK13 : ∀ (r0 : Nat) (r1 : Nat) (y2 : Int64) (x4 : Int32) (h : JH), K13 r0 r1 y2 x4 h → JW D (d + 1) mX28_at 13 [some (vR 22 r0), some (vR 6 r1), some (vL y2), none, some (vI x4), none] [] h Q) (w : W_X28_at_159 D d Q K13 r0 r1 y2 x4 r5 h) : JW D (d + 1) mX28_at 159 [some (vR 22 r0), some (vR 6 r1), some (vL y2), none, some (vI x4), some (vR 8 r5)] [] h Q := by
  unfold W_X28_at_159 at w
  refine jw_aload_n (pc' := 160) rfl rfl ?_
  obtain ⟨g_1, w⟩ := w
  refine jw_getR (pc' := 163) (F := 113) (t' := 64) rfl rfl rfl rfl rfl g_1 ?_
  refine jw_ldcS (pc' := 165) rfl rfl rfl rfl ?_
  obtain ⟨g_2, w⟩ := w
  refine jw_cI (st := []) (sa := [vR 64 (jfr h 113 r0), vR 51 (jcs D 117)]) okJ5_equals rfl rfl rfl rfl rfl rfl (jstp_virtual (sa := [vR 51 (jcs D 117)]) (st := []) (k := 0) rfl rfl sJ5_equals okJ5_equals g_2 (one64.k g_2) rfl rfl) w (fun v_5 h_3 _ _ w => ?_)
  refine jw_if_eq (tgt := 193) (pc' := 171) rfl rfl (fun c_6 => ?_) (fun c_6 => ?_)
  · replace w := w.1 c_6
    refine jw_gen (ls' := [some (vR 22 r0), some (vR 6 r1), some (vL y2), none, some (vI x4), none]) (st' := []) (And.intro (Or.inl rfl) (And.intro (Or.inl rfl) (And.intro (Or.inl rfl) (And.intro (Or.inl rfl) (trivial))))) (trivial) ?_
    exact w_X28_at_193 hK13 w
  · replace w := w.2 c_6
    refine jw_aload (pc' := 173) rfl rfl ?_
    refine jw_aload_n (pc' := 174) rfl rfl ?_
    refine jw_getR (pc' := 177) (F := 115) (t' := 99) rfl rfl rfl rfl rfl g_1 ?_
    obtain ⟨g_7, w⟩ := w
    refine jw_cI (st := []) (sa := [vR 8 r5, vR 99 (jfr h_3 115 r0)]) okX14_order rfl rfl rfl rfl rfl rfl (jstp_virtual (sa := [vR 99 (jfr h_3 115 r0)]) (st := []) (k := 0) rfl rfl sX14_order okX14_order g_7 (one8.k g_7) rfl rfl) w (fun v_10 h_8 _ _ w => ?_)
    refine jw_if_le (tgt := 193) (pc' := 183) rfl rfl (fun c_11 => ?_) (fun c_11 => ?_)
    · replace w := w.1 c_11
      refine jw_gen (ls' := [some (vR 22 r0), some (vR 6 r1), some (vL y2), none, some (vI x4), none]) (st' := []) (And.intro (Or.inl rfl) (And.intro (Or.inl rfl) (And.intro (Or.inl rfl) (And.intro (Or.inl rfl) (trivial))))) (trivial) ?_
      exact w_X28_at_193 hK13 w
    · replace w := w.2 c_11
      exact w_X28_at_183 hK13 w
def W_X28_at_122 (D : JD) (d : Nat) (Q : JO → JH → Prop) (K13 : Nat → Nat → Int64 → Int32 → JH → Prop) (r0 : Nat) (r1 : Nat) (y2 : Int64) (x4 : Int32) (q0 : Nat) (t1 : Int64) (h : JH) : Prop :=
  q0 ≠ 0 ∧ (cX14_number D d q0 t1 h (pR D h 8 (fun v_4 h_2 => W_X28_at_193 D d Q K13 r0 r1 y2 x4 h_2) (jth Q)))
theorem w_X28_at_122 {D : JD} {d : Nat} {Q : JO → JH → Prop} {K13 : Nat → Nat → Int64 → Int32 → JH → Prop} {r0 : Nat} {r1 : Nat} {y2 : Int64} {x4 : Int32} {q0 : Nat} {t1 : Int64} {h : JH} (hK13 : ∀ (r0 : Nat) (r1 : Nat) (y2 : Int64) (x4 : Int32) (h : JH), K13 r0 r1 y2 x4 h → JW D (d + 1) mX28_at 13 [some (vR 22 r0), some (vR 6 r1), some (vL y2), none, some (vI x4), none] [] h Q) (w : W_X28_at_122 D d Q K13 r0 r1 y2 x4 q0 t1 h) : JW D (d + 1) mX28_at 122 [some (vR 22 r0), some (vR 6 r1), some (vL y2), none, some (vI x4), none] [vL t1, vR 99 q0] h Q := by
  unfold W_X28_at_122 at w
  obtain ⟨g_1, w⟩ := w
  refine jw_cR (st := []) (sa := [vR 99 q0, vL t1]) okX14_number rfl rfl rfl rfl rfl rfl (jstp_virtual (sa := [vL t1]) (st := []) (k := 0) rfl rfl sX14_number okX14_number g_1 (one99.k g_1) rfl rfl) w (fun v_4 h_2 _ _ _ w => ?_)
  refine jw_pop (pc' := 126) rfl rfl ?_
  refine jw_goto (pc' := 193) rfl rfl ?_
  exact w_X28_at_193 hK13 w
def W_X28_at_62 (D : JD) (d : Nat) (Q : JO → JH → Prop) (K13 : Nat → Nat → Int64 → Int32 → JH → Prop) (r0 : Nat) (r1 : Nat) (y2 : Int64) (x4 : Int32) (q0 : Nat) (h : JH) : Prop :=
  q0 ≠ 0 ∧ (cX14_isEmpty D d q0 h (pI D h (fun v_4 h_2 => (v_4 = 0 → r0 ≠ 0 ∧ ((jfr h_2 113 r0) ≠ 0 ∧ (cJ5_equals D d (jfr h_2 113 r0) (jcs D 115) h_2 (pI D h_2 (fun v_10 h_8 => (v_10 = 0 → ((lg_cmp (y2 + (1 : Int64)) (1 : Int64)) = 0 → W_X28_at_183 D d Q K13 r0 r1 (y2 + (1 : Int64)) x4 q0 h_8) ∧ (¬ (lg_cmp (y2 + (1 : Int64)) (1 : Int64)) = 0 → (jfr h_8 113 r0) ≠ 0 ∧ (cJ5_equals D d (jfr h_8 113 r0) (jcs D 116) h_8 (pI D h_8 (fun v_16 h_14 => (v_16 = 0 → W_X28_at_159 D d Q K13 r0 r1 (y2 + (1 : Int64)) x4 q0 h_14) ∧ (¬ v_16 = 0 → cX14_order D d q0 (jfr h_14 115 r0) h_14 (pI D h_14 (fun v_20 h_18 => (v_20 < 0 → W_X28_at_183 D d Q K13 r0 r1 (y2 + (1 : Int64)) x4 q0 h_18) ∧ (¬ v_20 < 0 → W_X28_at_159 D d Q K13 r0 r1 (y2 + (1 : Int64)) x4 q0 h_18)) (jth Q)))) (jth Q))))) ∧ (¬ v_10 = 0 → (¬ (lg_cmp (y2 + (1 : Int64)) (1 : Int64)) = 0 → (jfr h_8 115 r0) ≠ 0 ∧ (cX14_number_2 D d (jfr h_8 115 r0) h_8 (pL D h_8 (fun v_25 h_24 => cX14_number_2 D d q0 h_24 (pL D h_24 (fun v_27 h_26 => W_X28_at_122 D d Q K13 r0 r1 (y2 + (1 : Int64)) x4 (jfr h_8 115 r0) (v_25 + v_27) h_26) (jth Q))) (jth Q)))) ∧ ((lg_cmp (y2 + (1 : Int64)) (1 : Int64)) = 0 → cX14_number_2 D d q0 h_8 (pL D h_8 (fun v_29 h_28 => W_X28_at_122 D d Q K13 r0 r1 (y2 + (1 : Int64)) x4 (jfr h_8 115 r0) v_29 h_28) (jth Q))))) (jth Q))))) ∧ (¬ v_4 = 0 → W_X28_at_193 D d Q K13 r0 r1 y2 x4 h_2)) (jth Q)))
theorem w_X28_at_62 {D : JD} {d : Nat} {Q : JO → JH → Prop} {K13 : Nat → Nat → Int64 → Int32 → JH → Prop} {r0 : Nat} {r1 : Nat} {y2 : Int64} {x4 : Int32} {q0 : Nat} {h : JH} (hK13 : ∀ (r0 : Nat) (r1 : Nat) (y2 : Int64) (x4 : Int32) (h : JH), K13 r0 r1 y2 x4 h → JW D (d + 1) mX28_at 13 [some (vR 22 r0), some (vR 6 r1), some (vL y2), none, some (vI x4), none] [] h Q) (w : W_X28_at_62 D d Q K13 r0 r1 y2 x4 q0 h) : JW D (d + 1) mX28_at 62 [some (vR 22 r0), some (vR 6 r1), some (vL y2), none, some (vI x4), none] [vR 8 q0] h Q := by
  unfold W_X28_at_62 at w
  refine jw_astore (pc' := 64) (ls' := [some (vR 22 r0), some (vR 6 r1), some (vL y2), none, some (vI x4), some (vR 8 q0)]) rfl (by decide) rfl ?_
  refine jw_aload (pc' := 66) rfl rfl ?_
  obtain ⟨g_1, w⟩ := w
  refine jw_cI (st := []) (sa := [vR 8 q0]) okX14_isEmpty rfl rfl rfl rfl rfl rfl (jstp_virtual (sa := []) (st := []) (k := 0) rfl rfl sX14_isEmpty okX14_isEmpty g_1 (one8.k g_1) rfl rfl) w (fun v_4 h_2 _ _ w => ?_)
  refine jw_if_eq (tgt := 75) (pc' := 72) rfl rfl (fun c_5 => ?_) (fun c_5 => ?_)
  · replace w := w.1 c_5
    refine jw_lload_n (pc' := 76) rfl rfl ?_
    refine jw_lconst (pc' := 77) (x := (1 : Int64)) rfl rfl ?_
    refine jw_ladd (pc' := 78) rfl ?_
    refine jw_lstore_n (pc' := 79) (ls' := [some (vR 22 r0), some (vR 6 r1), some (vL (y2 + (1 : Int64))), none, some (vI x4), some (vR 8 q0)]) rfl (by decide) rfl ?_
    refine jw_aload_n (pc' := 80) rfl rfl ?_
    obtain ⟨g_6, w⟩ := w
    refine jw_getR (pc' := 83) (F := 113) (t' := 64) rfl rfl rfl rfl rfl g_6 ?_
    refine jw_ldcS (pc' := 85) rfl rfl rfl rfl ?_
    obtain ⟨g_7, w⟩ := w
    refine jw_cI (st := []) (sa := [vR 64 (jfr h_2 113 r0), vR 51 (jcs D 115)]) okJ5_equals rfl rfl rfl rfl rfl rfl (jstp_virtual (sa := [vR 51 (jcs D 115)]) (st := []) (k := 0) rfl rfl sJ5_equals okJ5_equals g_7 (one64.k g_7) rfl rfl) w (fun v_10 h_8 _ _ w => ?_)
    refine jw_if_eq (tgt := 129) (pc' := 91) rfl rfl (fun c_11 => ?_) (fun c_11 => ?_)
    · replace w := w.1 c_11
      refine jw_lload_n (pc' := 130) rfl rfl ?_
      refine jw_lconst (pc' := 131) (x := (1 : Int64)) rfl rfl ?_
      refine jw_lcmp (pc' := 132) rfl ?_
      refine jw_if_eq (tgt := 183) (pc' := 135) rfl rfl (fun c_12 => ?_) (fun c_12 => ?_)
      · replace w := w.1 c_12
        exact w_X28_at_183 hK13 w
      · replace w := w.2 c_12
        refine jw_aload_n (pc' := 136) rfl rfl ?_
        refine jw_getR (pc' := 139) (F := 113) (t' := 64) rfl rfl rfl rfl rfl g_6 ?_
        refine jw_ldcS (pc' := 141) rfl rfl rfl rfl ?_
        obtain ⟨g_13, w⟩ := w
        refine jw_cI (st := []) (sa := [vR 64 (jfr h_8 113 r0), vR 51 (jcs D 116)]) okJ5_equals rfl rfl rfl rfl rfl rfl (jstp_virtual (sa := [vR 51 (jcs D 116)]) (st := []) (k := 0) rfl rfl sJ5_equals okJ5_equals g_13 (one64.k g_13) rfl rfl) w (fun v_16 h_14 _ _ w => ?_)
        refine jw_if_eq (tgt := 159) (pc' := 147) rfl rfl (fun c_17 => ?_) (fun c_17 => ?_)
        · replace w := w.1 c_17
          exact w_X28_at_159 hK13 w
        · replace w := w.2 c_17
          refine jw_aload (pc' := 149) rfl rfl ?_
          refine jw_aload_n (pc' := 150) rfl rfl ?_
          refine jw_getR (pc' := 153) (F := 115) (t' := 99) rfl rfl rfl rfl rfl g_6 ?_
          refine jw_cI (st := []) (sa := [vR 8 q0, vR 99 (jfr h_14 115 r0)]) okX14_order rfl rfl rfl rfl rfl rfl (jstp_virtual (sa := [vR 99 (jfr h_14 115 r0)]) (st := []) (k := 0) rfl rfl sX14_order okX14_order g_1 (one8.k g_1) rfl rfl) w (fun v_20 h_18 _ _ w => ?_)
          refine jw_if_lt (tgt := 183) (pc' := 159) rfl rfl (fun c_21 => ?_) (fun c_21 => ?_)
          · replace w := w.1 c_21
            exact w_X28_at_183 hK13 w
          · replace w := w.2 c_21
            exact w_X28_at_159 hK13 w
    · replace w := w.2 c_11
      refine jw_aload_n (pc' := 92) rfl rfl ?_
      refine jw_getR (pc' := 95) (F := 115) (t' := 99) rfl rfl rfl rfl rfl g_6 ?_
      refine jw_lload_n (pc' := 96) rfl rfl ?_
      refine jw_lconst (pc' := 97) (x := (1 : Int64)) rfl rfl ?_
      refine jw_lcmp (pc' := 98) rfl ?_
      refine jw_if_ne (tgt := 109) (pc' := 101) rfl rfl (fun c_22 => ?_) (fun c_22 => ?_)
      · replace w := w.1 c_22
        refine jw_aload_n (pc' := 110) rfl rfl ?_
        refine jw_getR (pc' := 113) (F := 115) (t' := 99) rfl rfl rfl rfl rfl g_6 ?_
        obtain ⟨g_23, w⟩ := w
        refine jw_cL (st := [vR 99 (jfr h_8 115 r0)]) (sa := [vR 99 (jfr h_8 115 r0)]) okX14_number_2 rfl rfl rfl rfl rfl rfl (jstp_virtual (sa := []) (st := [vR 99 (jfr h_8 115 r0)]) (k := 0) rfl rfl sX14_number_2 okX14_number_2 g_23 (one99.k g_23) rfl rfl) w (fun v_25 h_24 _ _ w => ?_)
        refine jw_aload (pc' := 118) rfl rfl ?_
        refine jw_cL (st := [vL v_25, vR 99 (jfr h_8 115 r0)]) (sa := [vR 8 q0]) okX14_number_2 rfl rfl rfl rfl rfl rfl (jstp_virtual (sa := []) (st := [vL v_25, vR 99 (jfr h_8 115 r0)]) (k := 0) rfl rfl sX14_number_2 okX14_number_2 g_1 (one8.k g_1) rfl rfl) w (fun v_27 h_26 _ _ w => ?_)
        refine jw_ladd (pc' := 122) rfl ?_
        refine jw_gen (ls' := [some (vR 22 r0), some (vR 6 r1), some (vL (y2 + (1 : Int64))), none, some (vI x4), none]) (st' := [vL (v_25 + v_27), vR 99 (jfr h_8 115 r0)]) (And.intro (Or.inl rfl) (And.intro (Or.inl rfl) (And.intro (Or.inl rfl) (And.intro (Or.inl rfl) (trivial))))) (And.intro (Or.inl rfl) (And.intro (Or.inl rfl) (trivial))) ?_
        exact w_X28_at_122 hK13 w
      · replace w := w.2 c_22
        refine jw_aload (pc' := 103) rfl rfl ?_
        refine jw_cL (st := [vR 99 (jfr h_8 115 r0)]) (sa := [vR 8 q0]) okX14_number_2 rfl rfl rfl rfl rfl rfl (jstp_virtual (sa := []) (st := [vR 99 (jfr h_8 115 r0)]) (k := 0) rfl rfl sX14_number_2 okX14_number_2 g_1 (one8.k g_1) rfl rfl) w (fun v_29 h_28 _ _ w => ?_)
        refine jw_goto (pc' := 122) rfl rfl ?_
        refine jw_gen (ls' := [some (vR 22 r0), some (vR 6 r1), some (vL (y2 + (1 : Int64))), none, some (vI x4), none]) (st' := [vL v_29, vR 99 (jfr h_8 115 r0)]) (And.intro (Or.inl rfl) (And.intro (Or.inl rfl) (And.intro (Or.inl rfl) (And.intro (Or.inl rfl) (trivial))))) (And.intro (Or.inl rfl) (And.intro (Or.inl rfl) (trivial))) ?_
        exact w_X28_at_122 hK13 w
  · replace w := w.2 c_5
    refine jw_goto (pc' := 193) rfl rfl ?_
    refine jw_gen (ls' := [some (vR 22 r0), some (vR 6 r1), some (vL y2), none, some (vI x4), none]) (st' := []) (And.intro (Or.inl rfl) (And.intro (Or.inl rfl) (And.intro (Or.inl rfl) (And.intro (Or.inl rfl) (trivial))))) (trivial) ?_
    exact w_X28_at_193 hK13 w
def W_X28_at_13 (D : JD) (d : Nat) (Q : JO → JH → Prop) (K13 : Nat → Nat → Int64 → Int32 → JH → Prop) (r0 : Nat) (r1 : Nat) (y2 : Int64) (x4 : Int32) (h : JH) : Prop :=
  r1 ≠ 0 ∧ (((jfi h 58 r1) ≤ x4 → ((jfi h 58 r1) ≤ 0 → W_X28_at_219 D d Q r0 y2 h) ∧ (¬ (jfi h 58 r1) ≤ 0 → (jfr h 57 r1) ≠ 0 ∧ jin (jfi h 59 r1) (jln h (jfr h 57 r1)) ∧ (cX6_take D d r1 (jai h (jfr h 57 r1) (ixn (jfi h 59 r1))) h (pV D h (fun h_6 => W_X28_at_219 D d Q r0 y2 h_6) (jth Q))))) ∧ (¬ (jfi h 58 r1) ≤ x4 → (jfr h 57 r1) ≠ 0 ∧ jin ((jfi h 59 r1) + x4) (jln h (jfr h 57 r1)) ∧ (cX6_take D d r1 (jai h (jfr h 57 r1) (ixn ((jfi h 59 r1) + x4))) h (pV D h (fun h_11 => r0 ≠ 0 ∧ (((jfi h_11 114 r0) = 0 → (jfr h_11 111 r0) ≠ 0 ∧ jin (0 : Int32) (jln h_11 (jfr h_11 111 r0)) ∧ ((jar h_11 (jfr h_11 111 r0) (ixn (0 : Int32))) ≠ 0 ∧ (v55_at D d (jar h_11 (jfr h_11 111 r0) (ixn (0 : Int32))) r1 h_11 (pR D h_11 8 (fun v_21 h_19 => W_X28_at_62 D d Q K13 r0 r1 y2 x4 v_21 h_19) (jth Q))))) ∧ (¬ (jfi h_11 114 r0) = 0 → W_X28_at_193 D d Q K13 r0 r1 (y2 + (1 : Int64)) x4 h_11))) (jth Q)))))
theorem w_X28_at_13 {D : JD} {d : Nat} {Q : JO → JH → Prop} {K13 : Nat → Nat → Int64 → Int32 → JH → Prop} {r0 : Nat} {r1 : Nat} {y2 : Int64} {x4 : Int32} {h : JH} (hK13 : ∀ (r0 : Nat) (r1 : Nat) (y2 : Int64) (x4 : Int32) (h : JH), K13 r0 r1 y2 x4 h → JW D (d + 1) mX28_at 13 [some (vR 22 r0), some (vR 6 r1), some (vL y2), none, some (vI x4), none] [] h Q) (w : W_X28_at_13 D d Q K13 r0 r1 y2 x4 h) : JW D (d + 1) mX28_at 13 [some (vR 22 r0), some (vR 6 r1), some (vL y2), none, some (vI x4), none] [] h Q := by
  unfold W_X28_at_13 at w
  refine jw_iload (pc' := 15) rfl rfl ?_
  refine jw_aload_n (pc' := 16) rfl rfl ?_
  obtain ⟨g_1, w⟩ := w
  refine jw_getI (pc' := 19) (F := 58) rfl rfl rfl rfl g_1 ?_
  refine jw_icmp_ge (tgt := 199) (pc' := 22) rfl rfl (fun c_2 => ?_) (fun c_2 => ?_)
  · replace w := w.1 c_2
    refine jw_aload_n (pc' := 200) rfl rfl ?_
    refine jw_getI (pc' := 203) (F := 58) rfl rfl rfl rfl g_1 ?_
    refine jw_if_le (tgt := 219) (pc' := 206) rfl rfl (fun c_3 => ?_) (fun c_3 => ?_)
    · replace w := w.1 c_3
      refine jw_gen (ls' := [some (vR 22 r0), none, some (vL y2), none, none, none]) (st' := []) (And.intro (Or.inl rfl) (And.intro (Or.inl rfl) (trivial))) (trivial) ?_
      exact w_X28_at_219 w
    · replace w := w.2 c_3
      refine jw_aload_n (pc' := 207) rfl rfl ?_
      refine jw_aload_n (pc' := 208) rfl rfl ?_
      refine jw_getR (pc' := 211) (F := 57) (t' := 68) rfl rfl rfl rfl rfl g_1 ?_
      refine jw_aload_n (pc' := 212) rfl rfl ?_
      refine jw_getI (pc' := 215) (F := 59) rfl rfl rfl rfl g_1 ?_
      obtain ⟨g_4, w⟩ := w
      obtain ⟨g_5, w⟩ := w
      refine jw_iald (pc' := 216) rfl rfl rfl rfl g_4 g_5.ix g_5.2 ?_
      refine jw_cV (st := []) (sa := [vR 6 r1, vI (jai h (jfr h 57 r1) (ixn (jfi h 59 r1)))]) okX6_take rfl rfl rfl rfl rfl rfl (jstp_virtual (sa := [vI (jai h (jfr h 57 r1) (ixn (jfi h 59 r1)))]) (st := []) (k := 0) rfl rfl sX6_take okX6_take g_1 (one6.k g_1) rfl rfl) w (fun h_6 _ _ w => ?_)
      refine jw_gen (ls' := [some (vR 22 r0), none, some (vL y2), none, none, none]) (st' := []) (And.intro (Or.inl rfl) (And.intro (Or.inl rfl) (trivial))) (trivial) ?_
      exact w_X28_at_219 w
  · replace w := w.2 c_2
    refine jw_aload_n (pc' := 23) rfl rfl ?_
    refine jw_aload_n (pc' := 24) rfl rfl ?_
    refine jw_getR (pc' := 27) (F := 57) (t' := 68) rfl rfl rfl rfl rfl g_1 ?_
    refine jw_aload_n (pc' := 28) rfl rfl ?_
    refine jw_getI (pc' := 31) (F := 59) rfl rfl rfl rfl g_1 ?_
    refine jw_iload (pc' := 33) rfl rfl ?_
    refine jw_iadd (pc' := 34) rfl ?_
    obtain ⟨g_9, w⟩ := w
    obtain ⟨g_10, w⟩ := w
    refine jw_iald (pc' := 35) rfl rfl rfl rfl g_9 g_10.ix g_10.2 ?_
    refine jw_cV (st := []) (sa := [vR 6 r1, vI (jai h (jfr h 57 r1) (ixn ((jfi h 59 r1) + x4)))]) okX6_take rfl rfl rfl rfl rfl rfl (jstp_virtual (sa := [vI (jai h (jfr h 57 r1) (ixn ((jfi h 59 r1) + x4)))]) (st := []) (k := 0) rfl rfl sX6_take okX6_take g_1 (one6.k g_1) rfl rfl) w (fun h_11 _ _ w => ?_)
    refine jw_aload_n (pc' := 39) rfl rfl ?_
    obtain ⟨g_14, w⟩ := w
    refine jw_getI (pc' := 42) (F := 114) rfl rfl rfl rfl g_14 ?_
    refine jw_if_eq (tgt := 52) (pc' := 45) rfl rfl (fun c_15 => ?_) (fun c_15 => ?_)
    · replace w := w.1 c_15
      refine jw_aload_n (pc' := 53) rfl rfl ?_
      refine jw_getR (pc' := 56) (F := 111) (t' := 77) rfl rfl rfl rfl rfl g_14 ?_
      refine jw_iconst (pc' := 57) (x := (0 : Int32)) rfl rfl ?_
      obtain ⟨g_16, w⟩ := w
      obtain ⟨g_17, w⟩ := w
      refine jw_aald (pc' := 58) (t' := 55) rfl rfl rfl rfl g_16 g_17.ix g_17.2 ?_
      refine jw_aload_n (pc' := 59) rfl rfl ?_
      obtain ⟨g_18, w⟩ := w
      refine JW.inv (fun hI => JW.oks (fun ho => ?_))
      have hkd := und55.k hI (ho (vR 55 (jar h_11 (jfr h_11 111 r0) (ixn (0 : Int32)))) (by simp)) g_18
      simp only [List.mem_cons, List.not_mem_nil, or_false] at hkd
      clear ho hI
      rcases hkd with e_22 | e_22 | e_22 | e_22 | e_22 | e_22 | e_22 | e_22 | e_22 | e_22
      · refine jw_gen (ls' := _) (st' := [vR 6 r1, vR 20 (jar h_11 (jfr h_11 111 r0) (ixn (0 : Int32)))]) (jgl_rf _ _) (And.intro (Or.inl rfl) (And.intro (Or.inr ⟨_, _, _, rfl, rfl, Or.inr (Or.inr (by rw [e_22]; rfl))⟩) (jgs_rf _ _))) ?_
        refine jw_cR (st := []) (sa := [vR 20 (jar h_11 (jfr h_11 111 r0) (ixn (0 : Int32))), vR 6 r1]) okX25_at rfl rfl rfl rfl rfl rfl (jstp_up (sa := [vR 6 r1]) (st := []) rfl (lw_g (jtb_mem (c := 12) (i := 26) rfl) rfl) um28 okX25_at g_18 (fun _ _ => by rw [e_22]; exact ⟨rfl, rfl⟩) rfl rfl) (w.1 e_22) (fun v_21 h_19 _ _ _ w => ?_)
        exact w_X28_at_62 hK13 w
      · refine jw_gen (ls' := _) (st' := [vR 6 r1, vR 21 (jar h_11 (jfr h_11 111 r0) (ixn (0 : Int32)))]) (jgl_rf _ _) (And.intro (Or.inl rfl) (And.intro (Or.inr ⟨_, _, _, rfl, rfl, Or.inr (Or.inr (by rw [e_22]; rfl))⟩) (jgs_rf _ _))) ?_
        refine jw_cR (st := []) (sa := [vR 21 (jar h_11 (jfr h_11 111 r0) (ixn (0 : Int32))), vR 6 r1]) okX27_at rfl rfl rfl rfl rfl rfl (jstp_up (sa := [vR 6 r1]) (st := []) rfl (lw_g (jtb_mem (c := 12) (i := 26) rfl) rfl) um29 okX27_at g_18 (fun _ _ => by rw [e_22]; exact ⟨rfl, rfl⟩) rfl rfl) (w.2.1 e_22) (fun v_21 h_19 _ _ _ w => ?_)
        exact w_X28_at_62 hK13 w
      · refine jw_gen (ls' := _) (st' := [vR 6 r1, vR 22 (jar h_11 (jfr h_11 111 r0) (ixn (0 : Int32)))]) (jgl_rf _ _) (And.intro (Or.inl rfl) (And.intro (Or.inr ⟨_, _, _, rfl, rfl, Or.inr (Or.inr (by rw [e_22]; rfl))⟩) (jgs_rf _ _))) ?_
        refine jw_cR (st := []) (sa := [vR 22 (jar h_11 (jfr h_11 111 r0) (ixn (0 : Int32))), vR 6 r1]) okX28_at rfl rfl rfl rfl rfl rfl (jstp_up (sa := [vR 6 r1]) (st := []) rfl (lw_g (jtb_mem (c := 12) (i := 26) rfl) rfl) um30 okX28_at g_18 (fun _ _ => by rw [e_22]; exact ⟨rfl, rfl⟩) rfl rfl) (w.2.2.1 e_22) (fun v_21 h_19 _ _ _ w => ?_)
        exact w_X28_at_62 hK13 w
      · refine jw_gen (ls' := _) (st' := [vR 6 r1, vR 23 (jar h_11 (jfr h_11 111 r0) (ixn (0 : Int32)))]) (jgl_rf _ _) (And.intro (Or.inl rfl) (And.intro (Or.inr ⟨_, _, _, rfl, rfl, Or.inr (Or.inr (by rw [e_22]; rfl))⟩) (jgs_rf _ _))) ?_
        refine jw_cR (st := []) (sa := [vR 23 (jar h_11 (jfr h_11 111 r0) (ixn (0 : Int32))), vR 6 r1]) okX29_at rfl rfl rfl rfl rfl rfl (jstp_up (sa := [vR 6 r1]) (st := []) rfl (lw_g (jtb_mem (c := 12) (i := 26) rfl) rfl) um31 okX29_at g_18 (fun _ _ => by rw [e_22]; exact ⟨rfl, rfl⟩) rfl rfl) (w.2.2.2.1 e_22) (fun v_21 h_19 _ _ _ w => ?_)
        exact w_X28_at_62 hK13 w
      · refine jw_gen (ls' := _) (st' := [vR 6 r1, vR 24 (jar h_11 (jfr h_11 111 r0) (ixn (0 : Int32)))]) (jgl_rf _ _) (And.intro (Or.inl rfl) (And.intro (Or.inr ⟨_, _, _, rfl, rfl, Or.inr (Or.inr (by rw [e_22]; rfl))⟩) (jgs_rf _ _))) ?_
        refine jw_cR (st := []) (sa := [vR 24 (jar h_11 (jfr h_11 111 r0) (ixn (0 : Int32))), vR 6 r1]) okX30_at rfl rfl rfl rfl rfl rfl (jstp_up (sa := [vR 6 r1]) (st := []) rfl (lw_g (jtb_mem (c := 12) (i := 26) rfl) rfl) um32 okX30_at g_18 (fun _ _ => by rw [e_22]; exact ⟨rfl, rfl⟩) rfl rfl) (w.2.2.2.2.1 e_22) (fun v_21 h_19 _ _ _ w => ?_)
        exact w_X28_at_62 hK13 w
      · refine jw_gen (ls' := _) (st' := [vR 6 r1, vR 25 (jar h_11 (jfr h_11 111 r0) (ixn (0 : Int32)))]) (jgl_rf _ _) (And.intro (Or.inl rfl) (And.intro (Or.inr ⟨_, _, _, rfl, rfl, Or.inr (Or.inr (by rw [e_22]; rfl))⟩) (jgs_rf _ _))) ?_
        refine jw_cR (st := []) (sa := [vR 25 (jar h_11 (jfr h_11 111 r0) (ixn (0 : Int32))), vR 6 r1]) okX31_at rfl rfl rfl rfl rfl rfl (jstp_up (sa := [vR 6 r1]) (st := []) rfl (lw_g (jtb_mem (c := 12) (i := 26) rfl) rfl) um33 okX31_at g_18 (fun _ _ => by rw [e_22]; exact ⟨rfl, rfl⟩) rfl rfl) (w.2.2.2.2.2.1 e_22) (fun v_21 h_19 _ _ _ w => ?_)
        exact w_X28_at_62 hK13 w
      · refine jw_gen (ls' := _) (st' := [vR 6 r1, vR 26 (jar h_11 (jfr h_11 111 r0) (ixn (0 : Int32)))]) (jgl_rf _ _) (And.intro (Or.inl rfl) (And.intro (Or.inr ⟨_, _, _, rfl, rfl, Or.inr (Or.inr (by rw [e_22]; rfl))⟩) (jgs_rf _ _))) ?_
        refine jw_cR (st := []) (sa := [vR 26 (jar h_11 (jfr h_11 111 r0) (ixn (0 : Int32))), vR 6 r1]) okX32_at rfl rfl rfl rfl rfl rfl (jstp_up (sa := [vR 6 r1]) (st := []) rfl (lw_g (jtb_mem (c := 12) (i := 26) rfl) rfl) um34 okX32_at g_18 (fun _ _ => by rw [e_22]; exact ⟨rfl, rfl⟩) rfl rfl) (w.2.2.2.2.2.2.1 e_22) (fun v_21 h_19 _ _ _ w => ?_)
        exact w_X28_at_62 hK13 w
      · refine jw_gen (ls' := _) (st' := [vR 6 r1, vR 27 (jar h_11 (jfr h_11 111 r0) (ixn (0 : Int32)))]) (jgl_rf _ _) (And.intro (Or.inl rfl) (And.intro (Or.inr ⟨_, _, _, rfl, rfl, Or.inr (Or.inr (by rw [e_22]; rfl))⟩) (jgs_rf _ _))) ?_
        refine jw_cR (st := []) (sa := [vR 27 (jar h_11 (jfr h_11 111 r0) (ixn (0 : Int32))), vR 6 r1]) okX33_at rfl rfl rfl rfl rfl rfl (jstp_up (sa := [vR 6 r1]) (st := []) rfl (lw_g (jtb_mem (c := 12) (i := 26) rfl) rfl) um35 okX33_at g_18 (fun _ _ => by rw [e_22]; exact ⟨rfl, rfl⟩) rfl rfl) (w.2.2.2.2.2.2.2.1 e_22) (fun v_21 h_19 _ _ _ w => ?_)
        exact w_X28_at_62 hK13 w
      · refine jw_gen (ls' := _) (st' := [vR 6 r1, vR 28 (jar h_11 (jfr h_11 111 r0) (ixn (0 : Int32)))]) (jgl_rf _ _) (And.intro (Or.inl rfl) (And.intro (Or.inr ⟨_, _, _, rfl, rfl, Or.inr (Or.inr (by rw [e_22]; rfl))⟩) (jgs_rf _ _))) ?_
        refine jw_cR (st := []) (sa := [vR 28 (jar h_11 (jfr h_11 111 r0) (ixn (0 : Int32))), vR 6 r1]) okX34_at rfl rfl rfl rfl rfl rfl (jstp_up (sa := [vR 6 r1]) (st := []) rfl (lw_g (jtb_mem (c := 12) (i := 26) rfl) rfl) um36 okX34_at g_18 (fun _ _ => by rw [e_22]; exact ⟨rfl, rfl⟩) rfl rfl) (w.2.2.2.2.2.2.2.2.1 e_22) (fun v_21 h_19 _ _ _ w => ?_)
        exact w_X28_at_62 hK13 w
      · refine jw_gen (ls' := _) (st' := [vR 6 r1, vR 29 (jar h_11 (jfr h_11 111 r0) (ixn (0 : Int32)))]) (jgl_rf _ _) (And.intro (Or.inl rfl) (And.intro (Or.inr ⟨_, _, _, rfl, rfl, Or.inr (Or.inr (by rw [e_22]; rfl))⟩) (jgs_rf _ _))) ?_
        refine jw_cR (st := []) (sa := [vR 29 (jar h_11 (jfr h_11 111 r0) (ixn (0 : Int32))), vR 6 r1]) okX35_at rfl rfl rfl rfl rfl rfl (jstp_up (sa := [vR 6 r1]) (st := []) rfl (lw_g (jtb_mem (c := 12) (i := 26) rfl) rfl) um37 okX35_at g_18 (fun _ _ => by rw [e_22]; exact ⟨rfl, rfl⟩) rfl rfl) (w.2.2.2.2.2.2.2.2.2 e_22) (fun v_21 h_19 _ _ _ w => ?_)
        exact w_X28_at_62 hK13 w
    · replace w := w.2 c_15
      refine jw_lload_n (pc' := 46) rfl rfl ?_
      refine jw_lconst (pc' := 47) (x := (1 : Int64)) rfl rfl ?_
      refine jw_ladd (pc' := 48) rfl ?_
      refine jw_lstore_n (pc' := 49) (ls' := [some (vR 22 r0), some (vR 6 r1), some (vL (y2 + (1 : Int64))), none, some (vI x4), none]) rfl (by decide) rfl ?_
      refine jw_goto (pc' := 193) rfl rfl ?_
      exact w_X28_at_193 hK13 w
def L_X28_at_13 (D : JD) (d : Nat) (Q : JO → JH → Prop) : Nat → Nat → Nat → Int64 → Int32 → JH → Prop
  | 0 => fun _ _ _ _ _ => False
  | n + 1 => fun r0 r1 y2 x4 h => W_X28_at_13 D d Q (L_X28_at_13 D d Q n) r0 r1 y2 x4 h
theorem l_X28_at_13 {D : JD} {d : Nat} {Q : JO → JH → Prop} : ∀ (n : Nat) (r0 : Nat) (r1 : Nat) (y2 : Int64) (x4 : Int32) (h : JH), L_X28_at_13 D d Q n r0 r1 y2 x4 h → JW D (d + 1) mX28_at 13 [some (vR 22 r0), some (vR 6 r1), some (vL y2), none, some (vI x4), none] [] h Q := by
  intro n
  induction n with
  | zero => intro _ _ _ _ _ w; exact w.elim
  | succ n ih => intro _ _ _ _ h w; exact w_X28_at_13 ih w
def W_X28_at_0 (D : JD) (d : Nat) (Q : JO → JH → Prop) (r0 : Nat) (r1 : Nat) (h : JH) : Prop :=
  r0 ≠ 0 ∧ ((jfr h 115 r0) ≠ 0 ∧ (cX14_none D d (jfr h 115 r0) h (pR D h 8 (fun v_5 h_3 => ∃ n, L_X28_at_13 D d Q n r0 r1 (0 : Int64) (0 : Int32) h_3) (jth Q))))
theorem w_X28_at_0 {D : JD} {d : Nat} {Q : JO → JH → Prop} {r0 : Nat} {r1 : Nat} {h : JH} (w : W_X28_at_0 D d Q r0 r1 h) : JW D (d + 1) mX28_at 0 [some (vR 22 r0), some (vR 6 r1), none, none, none, none] [] h Q := by
  unfold W_X28_at_0 at w
  refine jw_lconst (pc' := 1) (x := (0 : Int64)) rfl rfl ?_
  refine jw_lstore_n (pc' := 2) (ls' := [some (vR 22 r0), some (vR 6 r1), some (vL (0 : Int64)), none, none, none]) rfl (by decide) rfl ?_
  refine jw_aload_n (pc' := 3) rfl rfl ?_
  obtain ⟨g_1, w⟩ := w
  refine jw_getR (pc' := 6) (F := 115) (t' := 99) rfl rfl rfl rfl rfl g_1 ?_
  obtain ⟨g_2, w⟩ := w
  refine jw_cR (st := []) (sa := [vR 99 (jfr h 115 r0)]) okX14_none rfl rfl rfl rfl rfl rfl (jstp_virtual (sa := []) (st := []) (k := 0) rfl rfl sX14_none okX14_none g_2 (one99.k g_2) rfl rfl) w (fun v_5 h_3 _ _ _ w => ?_)
  refine jw_pop (pc' := 10) rfl rfl ?_
  refine jw_iconst (pc' := 11) (x := (0 : Int32)) rfl rfl ?_
  refine jw_istore (pc' := 13) (ls' := [some (vR 22 r0), some (vR 6 r1), some (vL (0 : Int64)), none, some (vI (0 : Int32)), none]) rfl (by decide) rfl ?_
  obtain ⟨n, w⟩ := w
  exact l_X28_at_13 n _ _ _ _ _ w
def T_X28_at (D : JD) (d : Nat) (Q : JO → JH → Prop) (r0 : Nat) (r1 : Nat) (h : JH) : Prop := W_X28_at_0 D d Q r0 r1 h
theorem t_X28_at {D : JD} {d : Nat} {Q : JO → JH → Prop} {r0 : Nat} {r1 : Nat} {h : JH} (w : T_X28_at D d Q r0 r1 h) : cX28_at D (d + 1) r0 r1 h Q := by
  unfold T_X28_at at w
  unfold cX28_at
  exact w_X28_at_0 w
def W_X29_init_0 (D : JD) (d : Nat) (Q : JO → JH → Prop) (r0 : Nat) (r1 : Nat) (r2 : Nat) (x3 : Int32) (h : JH) : Prop :=
  r0 ≠ 0 ∧ (cX26_init D d r0 r2 x3 h (pV D h (fun h_2 => ∀ h_5 : JH, h_5 = wfr h_2 116 r0 r1 → (Q (.inl none) h_5)) (jth Q)))
theorem w_X29_init_0 {D : JD} {d : Nat} {Q : JO → JH → Prop} {r0 : Nat} {r1 : Nat} {r2 : Nat} {x3 : Int32} {h : JH} (w : W_X29_init_0 D d Q r0 r1 r2 x3 h) : JW D (d + 1) mX29_init 0 [some (vR 23 r0), some (vR 64 r1), some (vR 77 r2), some (vI x3)] [] h Q := by
  unfold W_X29_init_0 at w
  refine jw_aload_n (pc' := 1) rfl rfl ?_
  refine jw_aload_n (pc' := 2) rfl rfl ?_
  refine jw_iload_n (pc' := 3) rfl rfl ?_
  obtain ⟨g_1, w⟩ := w
  refine jw_cV (st := []) (sa := [vR 23 r0, vR 77 r2, vI x3]) okX26_init rfl rfl rfl rfl rfl rfl (jstp_init (sa := [vR 77 r2, vI x3]) (st := []) rfl rfl sX26_init okX26_init (lw_g (jtb_mem (c := 7) (i := 184) rfl) rfl) g_1 rfl rfl) w (fun h_2 _ _ w => ?_)
  refine jw_aload_n (pc' := 7) rfl rfl ?_
  refine jw_aload_n (pc' := 8) rfl rfl ?_
  refine jw_putR' (pc' := 11) (F := 116) rfl rfl rfl (Or.inr rfl) (Or.inr ⟨rfl, rfl⟩) rfl rfl rfl g_1 (fun h_5 e_6 => ?_)
  replace w := w h_5 e_6
  exact jw_return rfl rfl w
def T_X29_init (D : JD) (d : Nat) (Q : JO → JH → Prop) (r0 : Nat) (r1 : Nat) (r2 : Nat) (x3 : Int32) (h : JH) : Prop := W_X29_init_0 D d Q r0 r1 r2 x3 h
theorem t_X29_init {D : JD} {d : Nat} {Q : JO → JH → Prop} {r0 : Nat} {r1 : Nat} {r2 : Nat} {x3 : Int32} {h : JH} (w : T_X29_init D d Q r0 r1 r2 x3 h) : cX29_init D (d + 1) r0 r1 r2 x3 h Q := by
  unfold T_X29_init at w
  unfold cX29_init
  exact w_X29_init_0 w
def W_X29_check_318 (D : JD) (d : Nat) (Q : JO → JH → Prop) (r0 : Nat) (h : JH) : Prop :=
  r0 ≠ 0 ∧ (Q (.inl (some (vR 52 (jfr h 109 r0)))) h)
theorem w_X29_check_318 {D : JD} {d : Nat} {Q : JO → JH → Prop} {r0 : Nat} {h : JH} (w : W_X29_check_318 D d Q r0 h) : JW D (d + 1) mX29_check 318 [some (vR 23 r0), none, none, none] [] h Q := by
  unfold W_X29_check_318 at w
  refine jw_aload_n (pc' := 319) rfl rfl ?_
  obtain ⟨g_1, w⟩ := w
  refine jw_getR (pc' := 322) (F := 109) (t' := 52) rfl rfl rfl rfl rfl g_1 ?_
  exact jw_areturn rfl rfl rfl rfl rfl w
def W_X29_check_206 (D : JD) (d : Nat) (Q : JO → JH → Prop) (r0 : Nat) (h : JH) : Prop :=
  r0 ≠ 0 ∧ (cX26_one D d r0 h (pR D h 52 (fun v_4 h_2 => ∀ h_5 : JH, h_5 = wfr h_2 109 r0 v_4 → (W_X29_check_318 D d Q r0 h_5)) (jth Q)))
theorem w_X29_check_206 {D : JD} {d : Nat} {Q : JO → JH → Prop} {r0 : Nat} {h : JH} (w : W_X29_check_206 D d Q r0 h) : JW D (d + 1) mX29_check 206 [some (vR 23 r0), none, none, none] [] h Q := by
  unfold W_X29_check_206 at w
  refine jw_aload_n (pc' := 207) rfl rfl ?_
  refine jw_aload_n (pc' := 208) rfl rfl ?_
  obtain ⟨g_1, w⟩ := w
  refine jw_cR (st := [vR 23 r0]) (sa := [vR 23 r0]) okX26_one rfl rfl rfl rfl rfl rfl (jstp_up (sa := []) (st := [vR 23 r0]) rfl (lw_g (jtb_mem (c := 10) (i := 140) rfl) rfl) um100 okX26_one g_1 (one23.k g_1) rfl rfl) w (fun v_4 h_2 _ _ _ w => ?_)
  refine jw_putR' (pc' := 214) (F := 109) rfl rfl rfl (Or.inr rfl) (Or.inl rfl) rfl rfl rfl g_1 (fun h_5 e_6 => ?_)
  replace w := w h_5 e_6
  refine jw_goto (pc' := 318) rfl rfl ?_
  exact w_X29_check_318 w
def W_X29_check_315 (D : JD) (d : Nat) (Q : JO → JH → Prop) (r0 : Nat) (q0 : Nat) (q1 : Nat) (h : JH) : Prop :=
  q0 ≠ 0 ∧ ∀ h_2 : JH, h_2 = wfr h 109 q0 q1 → (W_X29_check_318 D d Q r0 h_2)
theorem w_X29_check_315 {D : JD} {d : Nat} {Q : JO → JH → Prop} {r0 : Nat} {q0 : Nat} {q1 : Nat} {h : JH} (w : W_X29_check_315 D d Q r0 q0 q1 h) : JW D (d + 1) mX29_check 315 [some (vR 23 r0), none, none, none] [vR 52 q1, vR 23 q0] h Q := by
  unfold W_X29_check_315 at w
  obtain ⟨g_1, w⟩ := w
  refine jw_putR' (pc' := 318) (F := 109) rfl rfl rfl (Or.inr rfl) (Or.inl rfl) rfl rfl rfl g_1 (fun h_2 e_3 => ?_)
  replace w := w h_2 e_3
  exact w_X29_check_318 w
def W_X29_check_306 (D : JD) (d : Nat) (Q : JO → JH → Prop) (r0 : Nat) (q0 : Nat) (h : JH) : Prop :=
  W_X29_check_315 D d Q r0 q0 (jcs D 356) h
theorem w_X29_check_306 {D : JD} {d : Nat} {Q : JO → JH → Prop} {r0 : Nat} {q0 : Nat} {h : JH} (w : W_X29_check_306 D d Q r0 q0 h) : JW D (d + 1) mX29_check 306 [some (vR 23 r0), none, none, none] [vR 23 q0] h Q := by
  unfold W_X29_check_306 at w
  refine jw_getsR (pc' := 309) rfl rfl rfl rfl ?_
  refine jw_goto (pc' := 315) rfl rfl ?_
  exact w_X29_check_315 w
def W_X29_check_252 (D : JD) (d : Nat) (Q : JO → JH → Prop) (K252 : Nat → Int32 → JH → Prop) (r0 : Nat) (x3 : Int32) (h : JH) : Prop :=
  r0 ≠ 0 ∧ (((jfi h 112 r0) ≤ x3 → (jfr h 116 r0) ≠ 0 ∧ (cJ5_equals D d (jfr h 116 r0) (jcs D 157) h (pI D h (fun v_6 h_4 => (¬ v_6 = 0 → W_X29_check_306 D d Q r0 r0 h_4) ∧ (v_6 = 0 → (jfr h_4 116 r0) ≠ 0 ∧ (cJ5_equals D d (jfr h_4 116 r0) (jcs D 158) h_4 (pI D h_4 (fun v_11 h_9 => (v_11 = 0 → W_X29_check_315 D d Q r0 r0 (jcs D 346) h_9) ∧ (¬ v_11 = 0 → W_X29_check_306 D d Q r0 r0 h_9)) (jth Q))))) (jth Q)))) ∧ (¬ (jfi h 112 r0) ≤ x3 → (jfr h 111 r0) ≠ 0 ∧ jin x3 (jln h (jfr h 111 r0)) ∧ ((jar h (jfr h 111 r0) (ixn x3)) ≠ 0 ∧ (cX24_need D d (jfr h 109 (jar h (jfr h 111 r0) (ixn x3))) (jcs D 356) h (pV D h (fun h_16 => K252 r0 (x3 + (1 : Int32)) h_16) (jth Q))))))
theorem w_X29_check_252 {D : JD} {d : Nat} {Q : JO → JH → Prop} {K252 : Nat → Int32 → JH → Prop} {r0 : Nat} {x3 : Int32} {h : JH} (hK252 : ∀ (r0 : Nat) (x3 : Int32) (h : JH), K252 r0 x3 h → JW D (d + 1) mX29_check 252 [some (vR 23 r0), none, none, some (vI x3)] [] h Q) (w : W_X29_check_252 D d Q K252 r0 x3 h) : JW D (d + 1) mX29_check 252 [some (vR 23 r0), none, none, some (vI x3)] [] h Q := by
  unfold W_X29_check_252 at w
  refine jw_iload_n (pc' := 253) rfl rfl ?_
  refine jw_aload_n (pc' := 254) rfl rfl ?_
  obtain ⟨g_1, w⟩ := w
  refine jw_getI (pc' := 257) (F := 112) rfl rfl rfl rfl g_1 ?_
  refine jw_icmp_ge (tgt := 281) (pc' := 260) rfl rfl (fun c_2 => ?_) (fun c_2 => ?_)
  · replace w := w.1 c_2
    refine jw_aload_n (pc' := 282) rfl rfl ?_
    refine jw_aload_n (pc' := 283) rfl rfl ?_
    refine jw_getR (pc' := 286) (F := 116) (t' := 64) rfl rfl rfl rfl rfl g_1 ?_
    refine jw_ldcS (pc' := 288) rfl rfl rfl rfl ?_
    obtain ⟨g_3, w⟩ := w
    refine jw_cI (st := [vR 23 r0]) (sa := [vR 64 (jfr h 116 r0), vR 51 (jcs D 157)]) okJ5_equals rfl rfl rfl rfl rfl rfl (jstp_virtual (sa := [vR 51 (jcs D 157)]) (st := [vR 23 r0]) (k := 0) rfl rfl sJ5_equals okJ5_equals g_3 (one64.k g_3) rfl rfl) w (fun v_6 h_4 _ _ w => ?_)
    refine jw_if_ne (tgt := 306) (pc' := 294) rfl rfl (fun c_7 => ?_) (fun c_7 => ?_)
    · replace w := w.1 c_7
      refine jw_gen (ls' := [some (vR 23 r0), none, none, none]) (st' := [vR 23 r0]) (And.intro (Or.inl rfl) (trivial)) (And.intro (Or.inl rfl) (trivial)) ?_
      exact w_X29_check_306 w
    · replace w := w.2 c_7
      refine jw_aload_n (pc' := 295) rfl rfl ?_
      refine jw_getR (pc' := 298) (F := 116) (t' := 64) rfl rfl rfl rfl rfl g_1 ?_
      refine jw_ldcS (pc' := 300) rfl rfl rfl rfl ?_
      obtain ⟨g_8, w⟩ := w
      refine jw_cI (st := [vR 23 r0]) (sa := [vR 64 (jfr h_4 116 r0), vR 51 (jcs D 158)]) okJ5_equals rfl rfl rfl rfl rfl rfl (jstp_virtual (sa := [vR 51 (jcs D 158)]) (st := [vR 23 r0]) (k := 0) rfl rfl sJ5_equals okJ5_equals g_8 (one64.k g_8) rfl rfl) w (fun v_11 h_9 _ _ w => ?_)
      refine jw_if_eq (tgt := 312) (pc' := 306) rfl rfl (fun c_12 => ?_) (fun c_12 => ?_)
      · replace w := w.1 c_12
        refine jw_getsR (pc' := 315) rfl rfl rfl rfl ?_
        refine jw_gen (ls' := [some (vR 23 r0), none, none, none]) (st' := [vR 52 (jcs D 346), vR 23 r0]) (And.intro (Or.inl rfl) (trivial)) (And.intro (Or.inl rfl) (And.intro (Or.inl rfl) (trivial))) ?_
        exact w_X29_check_315 w
      · replace w := w.2 c_12
        refine jw_gen (ls' := [some (vR 23 r0), none, none, none]) (st' := [vR 23 r0]) (And.intro (Or.inl rfl) (trivial)) (And.intro (Or.inl rfl) (trivial)) ?_
        exact w_X29_check_306 w
  · replace w := w.2 c_2
    refine jw_aload_n (pc' := 261) rfl rfl ?_
    refine jw_getR (pc' := 264) (F := 111) (t' := 77) rfl rfl rfl rfl rfl g_1 ?_
    refine jw_iload_n (pc' := 265) rfl rfl ?_
    obtain ⟨g_13, w⟩ := w
    obtain ⟨g_14, w⟩ := w
    refine jw_aald (pc' := 266) (t' := 55) rfl rfl rfl rfl g_13 g_14.ix g_14.2 ?_
    obtain ⟨g_15, w⟩ := w
    refine jw_getR (pc' := 269) (F := 109) (t' := 52) rfl rfl rfl rfl rfl g_15 ?_
    refine jw_getsR (pc' := 272) rfl rfl rfl rfl ?_
    refine jw_cV (st := []) (sa := [vR 52 (jfr h 109 (jar h (jfr h 111 r0) (ixn x3))), vR 52 (jcs D 356)]) okX24_need rfl rfl rfl rfl rfl rfl (jstp_staticUp (sa := [vR 52 (jfr h 109 (jar h (jfr h 111 r0) (ixn x3))), vR 52 (jcs D 356)]) (st := []) rfl (lw_g (jtb_mem (c := 10) (i := 145) rfl) rfl) (lw_g (jtb_mem (c := 10) (i := 146) rfl) rfl) rfl sX24_need okX24_need rfl rfl) w (fun h_16 _ _ w => ?_)
    refine jw_iinc (pc' := 278) (y := x3 + (1 : Int32)) (ls' := [some (vR 23 r0), none, none, some (vI (x3 + (1 : Int32)))]) rfl (by decide) rfl rfl rfl ?_
    refine jw_goto (pc' := 252) rfl rfl ?_
    exact hK252 _ _ _ w
def L_X29_check_252 (D : JD) (d : Nat) (Q : JO → JH → Prop) : Nat → Nat → Int32 → JH → Prop
  | 0 => fun _ _ _ => False
  | n + 1 => fun r0 x3 h => W_X29_check_252 D d Q (L_X29_check_252 D d Q n) r0 x3 h
theorem l_X29_check_252 {D : JD} {d : Nat} {Q : JO → JH → Prop} : ∀ (n : Nat) (r0 : Nat) (x3 : Int32) (h : JH), L_X29_check_252 D d Q n r0 x3 h → JW D (d + 1) mX29_check 252 [some (vR 23 r0), none, none, some (vI x3)] [] h Q := by
  intro n
  induction n with
  | zero => intro _ _ _ w; exact w.elim
  | succ n ih => intro _ _ h w; exact w_X29_check_252 ih w
def W_X29_check_247 (D : JD) (d : Nat) (Q : JO → JH → Prop) (r0 : Nat) (q0 : Nat) (q1 : Nat) (h : JH) : Prop :=
  cX24_need D d q0 q1 h (pV D h (fun h_1 => ∃ n, L_X29_check_252 D d Q n r0 (1 : Int32) h_1) (jth Q))
theorem w_X29_check_247 {D : JD} {d : Nat} {Q : JO → JH → Prop} {r0 : Nat} {q0 : Nat} {q1 : Nat} {h : JH} (w : W_X29_check_247 D d Q r0 q0 q1 h) : JW D (d + 1) mX29_check 247 [some (vR 23 r0), none, none, none] [vR 52 q1, vR 52 q0] h Q := by
  unfold W_X29_check_247 at w
  refine jw_cV (st := []) (sa := [vR 52 q0, vR 52 q1]) okX24_need rfl rfl rfl rfl rfl rfl (jstp_staticUp (sa := [vR 52 q0, vR 52 q1]) (st := []) rfl (lw_g (jtb_mem (c := 10) (i := 145) rfl) rfl) (lw_g (jtb_mem (c := 10) (i := 146) rfl) rfl) rfl sX24_need okX24_need rfl rfl) w (fun h_1 _ _ w => ?_)
  refine jw_iconst (pc' := 251) (x := (1 : Int32)) rfl rfl ?_
  refine jw_istore_n (pc' := 252) (ls' := [some (vR 23 r0), none, none, some (vI (1 : Int32))]) rfl (by decide) rfl ?_
  obtain ⟨n, w⟩ := w
  exact l_X29_check_252 n _ _ _ w
def W_X29_check_165 (D : JD) (d : Nat) (Q : JO → JH → Prop) (K147 : Nat → Nat → Int32 → Int32 → JH → Prop) (r0 : Nat) (r1 : Nat) (x2 : Int32) (x3 : Int32) (q0 : Nat) (h : JH) : Prop :=
  K147 r0 r1 x2 (x3 + (1 : Int32)) h
theorem w_X29_check_165 {D : JD} {d : Nat} {Q : JO → JH → Prop} {K147 : Nat → Nat → Int32 → Int32 → JH → Prop} {r0 : Nat} {r1 : Nat} {x2 : Int32} {x3 : Int32} {q0 : Nat} {h : JH} (hK147 : ∀ (r0 : Nat) (r1 : Nat) (x2 : Int32) (x3 : Int32) (h : JH), K147 r0 r1 x2 x3 h → JW D (d + 1) mX29_check 147 [some (vR 23 r0), some (vR 6 r1), some (vI x2), some (vI x3)] [] h Q) (w : W_X29_check_165 D d Q K147 r0 r1 x2 x3 q0 h) : JW D (d + 1) mX29_check 165 [some (vR 23 r0), some (vR 6 r1), some (vI x2), some (vI x3)] [vR 52 q0] h Q := by
  unfold W_X29_check_165 at w
  refine jw_pop (pc' := 166) rfl rfl ?_
  refine jw_iinc (pc' := 169) (y := x3 + (1 : Int32)) (ls' := [some (vR 23 r0), some (vR 6 r1), some (vI x2), some (vI (x3 + (1 : Int32)))]) rfl (by decide) rfl rfl rfl ?_
  refine jw_goto (pc' := 147) rfl rfl ?_
  exact hK147 _ _ _ _ _ w
def W_X29_check_147 (D : JD) (d : Nat) (Q : JO → JH → Prop) (K147 : Nat → Nat → Int32 → Int32 → JH → Prop) (r0 : Nat) (r1 : Nat) (x2 : Int32) (x3 : Int32) (h : JH) : Prop :=
  r0 ≠ 0 ∧ (((jfi h 112 r0) ≤ x3 → (¬ x2 = 0 → (jfr h 116 r0) ≠ 0 ∧ (cJ5_equals D d (jfr h 116 r0) (jcs D 162) h (pI D h (fun v_7 h_5 => (¬ v_7 = 0 → W_X29_check_206 D d Q r0 h_5) ∧ (v_7 = 0 → (jfr h_5 116 r0) ≠ 0 ∧ (cJ5_equals D d (jfr h_5 116 r0) (jcs D 163) h_5 (pI D h_5 (fun v_12 h_10 => (v_12 = 0 → (jfr h_10 111 r0) ≠ 0 ∧ jin (0 : Int32) (jln h_10 (jfr h_10 111 r0)) ∧ ((jar h_10 (jfr h_10 111 r0) (ixn (0 : Int32))) ≠ 0 ∧ ((jfr h_10 116 r0) ≠ 0 ∧ (cJ5_equals D d (jfr h_10 116 r0) (jcs D 157) h_10 (pI D h_10 (fun v_20 h_18 => (v_20 = 0 → W_X29_check_247 D d Q r0 (jfr h_10 109 (jar h_10 (jfr h_10 111 r0) (ixn (0 : Int32)))) (jcs D 346) h_18) ∧ (¬ v_20 = 0 → W_X29_check_247 D d Q r0 (jfr h_10 109 (jar h_10 (jfr h_10 111 r0) (ixn (0 : Int32)))) (jcs D 356) h_18)) (jth Q)))))) ∧ (¬ v_12 = 0 → W_X29_check_206 D d Q r0 h_10)) (jth Q))))) (jth Q)))) ∧ (x2 = 0 → cX1_fault D d (jcs D 169) h (pR D h 9 (fun v_24 h_22 => v_24 ≠ 0 ∧ (Q (.inr v_24) h_22)) (jth Q)))) ∧ (¬ (jfi h 112 r0) ≤ x3 → (jfr h 111 r0) ≠ 0 ∧ jin x3 (jln h (jfr h 111 r0)) ∧ ((jar h (jfr h 111 r0) (ixn x3)) ≠ 0 ∧ (v55_check D d (jar h (jfr h 111 r0) (ixn x3)) r1 h (pR D h 52 (fun v_31 h_29 => W_X29_check_165 D d Q K147 r0 r1 x2 x3 v_31 h_29) (jth Q))))))
theorem w_X29_check_147 {D : JD} {d : Nat} {Q : JO → JH → Prop} {K147 : Nat → Nat → Int32 → Int32 → JH → Prop} {r0 : Nat} {r1 : Nat} {x2 : Int32} {x3 : Int32} {h : JH} (hK147 : ∀ (r0 : Nat) (r1 : Nat) (x2 : Int32) (x3 : Int32) (h : JH), K147 r0 r1 x2 x3 h → JW D (d + 1) mX29_check 147 [some (vR 23 r0), some (vR 6 r1), some (vI x2), some (vI x3)] [] h Q) (w : W_X29_check_147 D d Q K147 r0 r1 x2 x3 h) : JW D (d + 1) mX29_check 147 [some (vR 23 r0), some (vR 6 r1), some (vI x2), some (vI x3)] [] h Q := by
  unfold W_X29_check_147 at w
  refine jw_iload_n (pc' := 148) rfl rfl ?_
  refine jw_aload_n (pc' := 149) rfl rfl ?_
  obtain ⟨g_1, w⟩ := w
  refine jw_getI (pc' := 152) (F := 112) rfl rfl rfl rfl g_1 ?_
  refine jw_icmp_ge (tgt := 172) (pc' := 155) rfl rfl (fun c_2 => ?_) (fun c_2 => ?_)
  · replace w := w.1 c_2
    refine jw_iload_n (pc' := 173) rfl rfl ?_
    refine jw_if_ne (tgt := 182) (pc' := 176) rfl rfl (fun c_3 => ?_) (fun c_3 => ?_)
    · replace w := w.1 c_3
      refine jw_aload_n (pc' := 183) rfl rfl ?_
      refine jw_getR (pc' := 186) (F := 116) (t' := 64) rfl rfl rfl rfl rfl g_1 ?_
      refine jw_ldcS (pc' := 188) rfl rfl rfl rfl ?_
      obtain ⟨g_4, w⟩ := w
      refine jw_cI (st := []) (sa := [vR 64 (jfr h 116 r0), vR 51 (jcs D 162)]) okJ5_equals rfl rfl rfl rfl rfl rfl (jstp_virtual (sa := [vR 51 (jcs D 162)]) (st := []) (k := 0) rfl rfl sJ5_equals okJ5_equals g_4 (one64.k g_4) rfl rfl) w (fun v_7 h_5 _ _ w => ?_)
      refine jw_if_ne (tgt := 206) (pc' := 194) rfl rfl (fun c_8 => ?_) (fun c_8 => ?_)
      · replace w := w.1 c_8
        refine jw_gen (ls' := [some (vR 23 r0), none, none, none]) (st' := []) (And.intro (Or.inl rfl) (trivial)) (trivial) ?_
        exact w_X29_check_206 w
      · replace w := w.2 c_8
        refine jw_aload_n (pc' := 195) rfl rfl ?_
        refine jw_getR (pc' := 198) (F := 116) (t' := 64) rfl rfl rfl rfl rfl g_1 ?_
        refine jw_ldcS (pc' := 200) rfl rfl rfl rfl ?_
        obtain ⟨g_9, w⟩ := w
        refine jw_cI (st := []) (sa := [vR 64 (jfr h_5 116 r0), vR 51 (jcs D 163)]) okJ5_equals rfl rfl rfl rfl rfl rfl (jstp_virtual (sa := [vR 51 (jcs D 163)]) (st := []) (k := 0) rfl rfl sJ5_equals okJ5_equals g_9 (one64.k g_9) rfl rfl) w (fun v_12 h_10 _ _ w => ?_)
        refine jw_if_eq (tgt := 217) (pc' := 206) rfl rfl (fun c_13 => ?_) (fun c_13 => ?_)
        · replace w := w.1 c_13
          refine jw_aload_n (pc' := 218) rfl rfl ?_
          refine jw_getR (pc' := 221) (F := 111) (t' := 77) rfl rfl rfl rfl rfl g_1 ?_
          refine jw_iconst (pc' := 222) (x := (0 : Int32)) rfl rfl ?_
          obtain ⟨g_14, w⟩ := w
          obtain ⟨g_15, w⟩ := w
          refine jw_aald (pc' := 223) (t' := 55) rfl rfl rfl rfl g_14 g_15.ix g_15.2 ?_
          obtain ⟨g_16, w⟩ := w
          refine jw_getR (pc' := 226) (F := 109) (t' := 52) rfl rfl rfl rfl rfl g_16 ?_
          refine jw_aload_n (pc' := 227) rfl rfl ?_
          refine jw_getR (pc' := 230) (F := 116) (t' := 64) rfl rfl rfl rfl rfl g_1 ?_
          refine jw_ldcS (pc' := 232) rfl rfl rfl rfl ?_
          obtain ⟨g_17, w⟩ := w
          refine jw_cI (st := [vR 52 (jfr h_10 109 (jar h_10 (jfr h_10 111 r0) (ixn (0 : Int32))))]) (sa := [vR 64 (jfr h_10 116 r0), vR 51 (jcs D 157)]) okJ5_equals rfl rfl rfl rfl rfl rfl (jstp_virtual (sa := [vR 51 (jcs D 157)]) (st := [vR 52 (jfr h_10 109 (jar h_10 (jfr h_10 111 r0) (ixn (0 : Int32))))]) (k := 0) rfl rfl sJ5_equals okJ5_equals g_17 (one64.k g_17) rfl rfl) w (fun v_20 h_18 _ _ w => ?_)
          refine jw_if_eq (tgt := 244) (pc' := 238) rfl rfl (fun c_21 => ?_) (fun c_21 => ?_)
          · replace w := w.1 c_21
            refine jw_getsR (pc' := 247) rfl rfl rfl rfl ?_
            refine jw_gen (ls' := [some (vR 23 r0), none, none, none]) (st' := [vR 52 (jcs D 346), vR 52 (jfr h_10 109 (jar h_10 (jfr h_10 111 r0) (ixn (0 : Int32))))]) (And.intro (Or.inl rfl) (trivial)) (And.intro (Or.inl rfl) (And.intro (Or.inl rfl) (trivial))) ?_
            exact w_X29_check_247 w
          · replace w := w.2 c_21
            refine jw_getsR (pc' := 241) rfl rfl rfl rfl ?_
            refine jw_goto (pc' := 247) rfl rfl ?_
            refine jw_gen (ls' := [some (vR 23 r0), none, none, none]) (st' := [vR 52 (jcs D 356), vR 52 (jfr h_10 109 (jar h_10 (jfr h_10 111 r0) (ixn (0 : Int32))))]) (And.intro (Or.inl rfl) (trivial)) (And.intro (Or.inl rfl) (And.intro (Or.inl rfl) (trivial))) ?_
            exact w_X29_check_247 w
        · replace w := w.2 c_13
          refine jw_gen (ls' := [some (vR 23 r0), none, none, none]) (st' := []) (And.intro (Or.inl rfl) (trivial)) (trivial) ?_
          exact w_X29_check_206 w
    · replace w := w.2 c_3
      refine jw_ldcS (pc' := 178) rfl rfl rfl rfl ?_
      refine jw_cR (st := []) (sa := [vR 51 (jcs D 169)]) okX1_fault rfl rfl rfl rfl rfl rfl (jstp_static (sa := [vR 51 (jcs D 169)]) (st := []) rfl rfl sX1_fault okX1_fault rfl rfl) w (fun v_24 h_22 _ _ _ w => ?_)
      obtain ⟨g_25, w⟩ := w
      exact jw_athrow rfl rfl g_25 w
  · replace w := w.2 c_2
    refine jw_aload_n (pc' := 156) rfl rfl ?_
    refine jw_getR (pc' := 159) (F := 111) (t' := 77) rfl rfl rfl rfl rfl g_1 ?_
    refine jw_iload_n (pc' := 160) rfl rfl ?_
    obtain ⟨g_26, w⟩ := w
    obtain ⟨g_27, w⟩ := w
    refine jw_aald (pc' := 161) (t' := 55) rfl rfl rfl rfl g_26 g_27.ix g_27.2 ?_
    refine jw_aload_n (pc' := 162) rfl rfl ?_
    obtain ⟨g_28, w⟩ := w
    refine JW.inv (fun hI => JW.oks (fun ho => ?_))
    have hkd := und55.k hI (ho (vR 55 (jar h (jfr h 111 r0) (ixn x3))) (by simp)) g_28
    simp only [List.mem_cons, List.not_mem_nil, or_false] at hkd
    clear ho hI
    rcases hkd with e_32 | e_32 | e_32 | e_32 | e_32 | e_32 | e_32 | e_32 | e_32 | e_32
    · refine jw_gen (ls' := _) (st' := [vR 6 r1, vR 20 (jar h (jfr h 111 r0) (ixn x3))]) (jgl_rf _ _) (And.intro (Or.inl rfl) (And.intro (Or.inr ⟨_, _, _, rfl, rfl, Or.inr (Or.inr (by rw [e_32]; rfl))⟩) (jgs_rf _ _))) ?_
      refine jw_cR (st := []) (sa := [vR 20 (jar h (jfr h 111 r0) (ixn x3)), vR 6 r1]) okX25_check rfl rfl rfl rfl rfl rfl (jstp_up (sa := [vR 6 r1]) (st := []) rfl (lw_g (jtb_mem (c := 10) (i := 61) rfl) rfl) um18 okX25_check g_28 (fun _ _ => by rw [e_32]; exact ⟨rfl, rfl⟩) rfl rfl) (w.1 e_32) (fun v_31 h_29 _ _ _ w => ?_)
      exact w_X29_check_165 hK147 w
    · refine jw_gen (ls' := _) (st' := [vR 6 r1, vR 21 (jar h (jfr h 111 r0) (ixn x3))]) (jgl_rf _ _) (And.intro (Or.inl rfl) (And.intro (Or.inr ⟨_, _, _, rfl, rfl, Or.inr (Or.inr (by rw [e_32]; rfl))⟩) (jgs_rf _ _))) ?_
      refine jw_cR (st := []) (sa := [vR 21 (jar h (jfr h 111 r0) (ixn x3)), vR 6 r1]) okX27_check rfl rfl rfl rfl rfl rfl (jstp_up (sa := [vR 6 r1]) (st := []) rfl (lw_g (jtb_mem (c := 10) (i := 61) rfl) rfl) um19 okX27_check g_28 (fun _ _ => by rw [e_32]; exact ⟨rfl, rfl⟩) rfl rfl) (w.2.1 e_32) (fun v_31 h_29 _ _ _ w => ?_)
      exact w_X29_check_165 hK147 w
    · refine jw_gen (ls' := _) (st' := [vR 6 r1, vR 22 (jar h (jfr h 111 r0) (ixn x3))]) (jgl_rf _ _) (And.intro (Or.inl rfl) (And.intro (Or.inr ⟨_, _, _, rfl, rfl, Or.inr (Or.inr (by rw [e_32]; rfl))⟩) (jgs_rf _ _))) ?_
      refine jw_cR (st := []) (sa := [vR 22 (jar h (jfr h 111 r0) (ixn x3)), vR 6 r1]) okX28_check rfl rfl rfl rfl rfl rfl (jstp_up (sa := [vR 6 r1]) (st := []) rfl (lw_g (jtb_mem (c := 10) (i := 61) rfl) rfl) um20 okX28_check g_28 (fun _ _ => by rw [e_32]; exact ⟨rfl, rfl⟩) rfl rfl) (w.2.2.1 e_32) (fun v_31 h_29 _ _ _ w => ?_)
      exact w_X29_check_165 hK147 w
    · refine jw_gen (ls' := _) (st' := [vR 6 r1, vR 23 (jar h (jfr h 111 r0) (ixn x3))]) (jgl_rf _ _) (And.intro (Or.inl rfl) (And.intro (Or.inr ⟨_, _, _, rfl, rfl, Or.inr (Or.inr (by rw [e_32]; rfl))⟩) (jgs_rf _ _))) ?_
      refine jw_cR (st := []) (sa := [vR 23 (jar h (jfr h 111 r0) (ixn x3)), vR 6 r1]) okX29_check rfl rfl rfl rfl rfl rfl (jstp_up (sa := [vR 6 r1]) (st := []) rfl (lw_g (jtb_mem (c := 10) (i := 61) rfl) rfl) um21 okX29_check g_28 (fun _ _ => by rw [e_32]; exact ⟨rfl, rfl⟩) rfl rfl) (w.2.2.2.1 e_32) (fun v_31 h_29 _ _ _ w => ?_)
      exact w_X29_check_165 hK147 w
    · refine jw_gen (ls' := _) (st' := [vR 6 r1, vR 24 (jar h (jfr h 111 r0) (ixn x3))]) (jgl_rf _ _) (And.intro (Or.inl rfl) (And.intro (Or.inr ⟨_, _, _, rfl, rfl, Or.inr (Or.inr (by rw [e_32]; rfl))⟩) (jgs_rf _ _))) ?_
      refine jw_cR (st := []) (sa := [vR 24 (jar h (jfr h 111 r0) (ixn x3)), vR 6 r1]) okX30_check rfl rfl rfl rfl rfl rfl (jstp_up (sa := [vR 6 r1]) (st := []) rfl (lw_g (jtb_mem (c := 10) (i := 61) rfl) rfl) um22 okX30_check g_28 (fun _ _ => by rw [e_32]; exact ⟨rfl, rfl⟩) rfl rfl) (w.2.2.2.2.1 e_32) (fun v_31 h_29 _ _ _ w => ?_)
      exact w_X29_check_165 hK147 w
    · refine jw_gen (ls' := _) (st' := [vR 6 r1, vR 25 (jar h (jfr h 111 r0) (ixn x3))]) (jgl_rf _ _) (And.intro (Or.inl rfl) (And.intro (Or.inr ⟨_, _, _, rfl, rfl, Or.inr (Or.inr (by rw [e_32]; rfl))⟩) (jgs_rf _ _))) ?_
      refine jw_cR (st := []) (sa := [vR 25 (jar h (jfr h 111 r0) (ixn x3)), vR 6 r1]) okX31_check rfl rfl rfl rfl rfl rfl (jstp_up (sa := [vR 6 r1]) (st := []) rfl (lw_g (jtb_mem (c := 10) (i := 61) rfl) rfl) um23 okX31_check g_28 (fun _ _ => by rw [e_32]; exact ⟨rfl, rfl⟩) rfl rfl) (w.2.2.2.2.2.1 e_32) (fun v_31 h_29 _ _ _ w => ?_)
      exact w_X29_check_165 hK147 w
    · refine jw_gen (ls' := _) (st' := [vR 6 r1, vR 26 (jar h (jfr h 111 r0) (ixn x3))]) (jgl_rf _ _) (And.intro (Or.inl rfl) (And.intro (Or.inr ⟨_, _, _, rfl, rfl, Or.inr (Or.inr (by rw [e_32]; rfl))⟩) (jgs_rf _ _))) ?_
      refine jw_cR (st := []) (sa := [vR 26 (jar h (jfr h 111 r0) (ixn x3)), vR 6 r1]) okX32_check rfl rfl rfl rfl rfl rfl (jstp_up (sa := [vR 6 r1]) (st := []) rfl (lw_g (jtb_mem (c := 10) (i := 61) rfl) rfl) um24 okX32_check g_28 (fun _ _ => by rw [e_32]; exact ⟨rfl, rfl⟩) rfl rfl) (w.2.2.2.2.2.2.1 e_32) (fun v_31 h_29 _ _ _ w => ?_)
      exact w_X29_check_165 hK147 w
    · refine jw_gen (ls' := _) (st' := [vR 6 r1, vR 27 (jar h (jfr h 111 r0) (ixn x3))]) (jgl_rf _ _) (And.intro (Or.inl rfl) (And.intro (Or.inr ⟨_, _, _, rfl, rfl, Or.inr (Or.inr (by rw [e_32]; rfl))⟩) (jgs_rf _ _))) ?_
      refine jw_cR (st := []) (sa := [vR 27 (jar h (jfr h 111 r0) (ixn x3)), vR 6 r1]) okX33_check rfl rfl rfl rfl rfl rfl (jstp_up (sa := [vR 6 r1]) (st := []) rfl (lw_g (jtb_mem (c := 10) (i := 61) rfl) rfl) um25 okX33_check g_28 (fun _ _ => by rw [e_32]; exact ⟨rfl, rfl⟩) rfl rfl) (w.2.2.2.2.2.2.2.1 e_32) (fun v_31 h_29 _ _ _ w => ?_)
      exact w_X29_check_165 hK147 w
    · refine jw_gen (ls' := _) (st' := [vR 6 r1, vR 28 (jar h (jfr h 111 r0) (ixn x3))]) (jgl_rf _ _) (And.intro (Or.inl rfl) (And.intro (Or.inr ⟨_, _, _, rfl, rfl, Or.inr (Or.inr (by rw [e_32]; rfl))⟩) (jgs_rf _ _))) ?_
      refine jw_cR (st := []) (sa := [vR 28 (jar h (jfr h 111 r0) (ixn x3)), vR 6 r1]) okX34_check rfl rfl rfl rfl rfl rfl (jstp_up (sa := [vR 6 r1]) (st := []) rfl (lw_g (jtb_mem (c := 10) (i := 61) rfl) rfl) um26 okX34_check g_28 (fun _ _ => by rw [e_32]; exact ⟨rfl, rfl⟩) rfl rfl) (w.2.2.2.2.2.2.2.2.1 e_32) (fun v_31 h_29 _ _ _ w => ?_)
      exact w_X29_check_165 hK147 w
    · refine jw_gen (ls' := _) (st' := [vR 6 r1, vR 29 (jar h (jfr h 111 r0) (ixn x3))]) (jgl_rf _ _) (And.intro (Or.inl rfl) (And.intro (Or.inr ⟨_, _, _, rfl, rfl, Or.inr (Or.inr (by rw [e_32]; rfl))⟩) (jgs_rf _ _))) ?_
      refine jw_cR (st := []) (sa := [vR 29 (jar h (jfr h 111 r0) (ixn x3)), vR 6 r1]) okX35_check rfl rfl rfl rfl rfl rfl (jstp_up (sa := [vR 6 r1]) (st := []) rfl (lw_g (jtb_mem (c := 10) (i := 61) rfl) rfl) um27 okX35_check g_28 (fun _ _ => by rw [e_32]; exact ⟨rfl, rfl⟩) rfl rfl) (w.2.2.2.2.2.2.2.2.2 e_32) (fun v_31 h_29 _ _ _ w => ?_)
      exact w_X29_check_165 hK147 w
def L_X29_check_147 (D : JD) (d : Nat) (Q : JO → JH → Prop) : Nat → Nat → Nat → Int32 → Int32 → JH → Prop
  | 0 => fun _ _ _ _ _ => False
  | n + 1 => fun r0 r1 x2 x3 h => W_X29_check_147 D d Q (L_X29_check_147 D d Q n) r0 r1 x2 x3 h
theorem l_X29_check_147 {D : JD} {d : Nat} {Q : JO → JH → Prop} : ∀ (n : Nat) (r0 : Nat) (r1 : Nat) (x2 : Int32) (x3 : Int32) (h : JH), L_X29_check_147 D d Q n r0 r1 x2 x3 h → JW D (d + 1) mX29_check 147 [some (vR 23 r0), some (vR 6 r1), some (vI x2), some (vI x3)] [] h Q := by
  intro n
  induction n with
  | zero => intro _ _ _ _ _ w; exact w.elim
  | succ n ih => intro _ _ _ _ h w; exact w_X29_check_147 ih w
def W_X29_check_144 (D : JD) (d : Nat) (Q : JO → JH → Prop) (r0 : Nat) (r1 : Nat) (s0 : Int32) (h : JH) : Prop :=
  ∃ n, L_X29_check_147 D d Q n r0 r1 s0 (0 : Int32) h
theorem w_X29_check_144 {D : JD} {d : Nat} {Q : JO → JH → Prop} {r0 : Nat} {r1 : Nat} {s0 : Int32} {h : JH} (w : W_X29_check_144 D d Q r0 r1 s0 h) : JW D (d + 1) mX29_check 144 [some (vR 23 r0), some (vR 6 r1), none, none] [vI s0] h Q := by
  unfold W_X29_check_144 at w
  refine jw_istore_n (pc' := 145) (ls' := [some (vR 23 r0), some (vR 6 r1), some (vI s0), none]) rfl (by decide) rfl ?_
  refine jw_iconst (pc' := 146) (x := (0 : Int32)) rfl rfl ?_
  refine jw_istore_n (pc' := 147) (ls' := [some (vR 23 r0), some (vR 6 r1), some (vI s0), some (vI (0 : Int32))]) rfl (by decide) rfl ?_
  obtain ⟨n, w⟩ := w
  exact l_X29_check_147 n _ _ _ _ _ w
def W_X29_check_48 (D : JD) (d : Nat) (Q : JO → JH → Prop) (r0 : Nat) (r1 : Nat) (h : JH) : Prop :=
  r0 ≠ 0 ∧ ((¬ (jfi h 112 r0) = (1 : Int32) → W_X29_check_144 D d Q r0 r1 (0 : Int32) h) ∧ ((jfi h 112 r0) = (1 : Int32) → W_X29_check_144 D d Q r0 r1 (1 : Int32) h))
theorem w_X29_check_48 {D : JD} {d : Nat} {Q : JO → JH → Prop} {r0 : Nat} {r1 : Nat} {h : JH} (w : W_X29_check_48 D d Q r0 r1 h) : JW D (d + 1) mX29_check 48 [some (vR 23 r0), some (vR 6 r1), none, none] [] h Q := by
  unfold W_X29_check_48 at w
  refine jw_aload_n (pc' := 49) rfl rfl ?_
  obtain ⟨g_1, w⟩ := w
  refine jw_getI (pc' := 52) (F := 112) rfl rfl rfl rfl g_1 ?_
  refine jw_iconst (pc' := 53) (x := (1 : Int32)) rfl rfl ?_
  refine jw_icmp_ne (tgt := 60) (pc' := 56) rfl rfl (fun c_2 => ?_) (fun c_2 => ?_)
  · replace w := w.1 c_2
    refine jw_iconst (pc' := 61) (x := (0 : Int32)) rfl rfl ?_
    refine jw_goto (pc' := 144) rfl rfl ?_
    exact w_X29_check_144 w
  · replace w := w.2 c_2
    refine jw_iconst (pc' := 57) (x := (1 : Int32)) rfl rfl ?_
    refine jw_goto (pc' := 144) rfl rfl ?_
    exact w_X29_check_144 w
def W_X29_check_143 (D : JD) (d : Nat) (Q : JO → JH → Prop) (r0 : Nat) (r1 : Nat) (h : JH) : Prop :=
  W_X29_check_144 D d Q r0 r1 (0 : Int32) h
theorem w_X29_check_143 {D : JD} {d : Nat} {Q : JO → JH → Prop} {r0 : Nat} {r1 : Nat} {h : JH} (w : W_X29_check_143 D d Q r0 r1 h) : JW D (d + 1) mX29_check 143 [some (vR 23 r0), some (vR 6 r1), none, none] [] h Q := by
  unfold W_X29_check_143 at w
  refine jw_iconst (pc' := 144) (x := (0 : Int32)) rfl rfl ?_
  exact w_X29_check_144 w
def W_X29_check_0 (D : JD) (d : Nat) (Q : JO → JH → Prop) (r0 : Nat) (r1 : Nat) (h : JH) : Prop :=
  r0 ≠ 0 ∧ ((jfr h 116 r0) ≠ 0 ∧ (cJ5_equals D d (jfr h 116 r0) (jcs D 157) h (pI D h (fun v_5 h_3 => (¬ v_5 = 0 → W_X29_check_48 D d Q r0 r1 h_3) ∧ (v_5 = 0 → (jfr h_3 116 r0) ≠ 0 ∧ (cJ5_equals D d (jfr h_3 116 r0) (jcs D 158) h_3 (pI D h_3 (fun v_10 h_8 => (¬ v_10 = 0 → W_X29_check_48 D d Q r0 r1 h_8) ∧ (v_10 = 0 → (jfr h_8 116 r0) ≠ 0 ∧ (cJ5_equals D d (jfr h_8 116 r0) (jcs D 159) h_8 (pI D h_8 (fun v_15 h_13 => (¬ v_15 = 0 → W_X29_check_48 D d Q r0 r1 h_13) ∧ (v_15 = 0 → (jfr h_13 116 r0) ≠ 0 ∧ (cJ5_equals D d (jfr h_13 116 r0) (jcs D 160) h_13 (pI D h_13 (fun v_20 h_18 => (v_20 = 0 → (jfr h_18 116 r0) ≠ 0 ∧ (cJ5_equals D d (jfr h_18 116 r0) (jcs D 161) h_18 (pI D h_18 (fun v_25 h_23 => (v_25 = 0 → (jfr h_23 116 r0) ≠ 0 ∧ (cJ5_equals D d (jfr h_23 116 r0) (jcs D 162) h_23 (pI D h_23 (fun v_30 h_28 => (v_30 = 0 → (jfr h_28 116 r0) ≠ 0 ∧ (cJ5_equals D d (jfr h_28 116 r0) (jcs D 163) h_28 (pI D h_28 (fun v_35 h_33 => (v_35 = 0 → W_X29_check_143 D d Q r0 r1 h_33) ∧ (¬ v_35 = 0 → (¬ (jfi h_33 112 r0) = (2 : Int32) → W_X29_check_143 D d Q r0 r1 h_33) ∧ ((jfi h_33 112 r0) = (2 : Int32) → W_X29_check_144 D d Q r0 r1 (1 : Int32) h_33))) (jth Q)))) ∧ (¬ v_30 = 0 → ((jfi h_28 112 r0) ≤ 0 → W_X29_check_144 D d Q r0 r1 (0 : Int32) h_28) ∧ (¬ (jfi h_28 112 r0) ≤ 0 → W_X29_check_144 D d Q r0 r1 (1 : Int32) h_28))) (jth Q)))) ∧ (¬ v_25 = 0 → (¬ (jfi h_23 112 r0) = (3 : Int32) → W_X29_check_144 D d Q r0 r1 (0 : Int32) h_23) ∧ ((jfi h_23 112 r0) = (3 : Int32) → W_X29_check_144 D d Q r0 r1 (1 : Int32) h_23))) (jth Q)))) ∧ (¬ v_20 = 0 → W_X29_check_48 D d Q r0 r1 h_18)) (jth Q))))) (jth Q))))) (jth Q))))) (jth Q))))
theorem w_X29_check_0 {D : JD} {d : Nat} {Q : JO → JH → Prop} {r0 : Nat} {r1 : Nat} {h : JH} (w : W_X29_check_0 D d Q r0 r1 h) : JW D (d + 1) mX29_check 0 [some (vR 23 r0), some (vR 6 r1), none, none] [] h Q := by
  unfold W_X29_check_0 at w
  refine jw_aload_n (pc' := 1) rfl rfl ?_
  obtain ⟨g_1, w⟩ := w
  refine jw_getR (pc' := 4) (F := 116) (t' := 64) rfl rfl rfl rfl rfl g_1 ?_
  refine jw_ldcS (pc' := 6) rfl rfl rfl rfl ?_
  obtain ⟨g_2, w⟩ := w
  refine jw_cI (st := []) (sa := [vR 64 (jfr h 116 r0), vR 51 (jcs D 157)]) okJ5_equals rfl rfl rfl rfl rfl rfl (jstp_virtual (sa := [vR 51 (jcs D 157)]) (st := []) (k := 0) rfl rfl sJ5_equals okJ5_equals g_2 (one64.k g_2) rfl rfl) w (fun v_5 h_3 _ _ w => ?_)
  refine jw_if_ne (tgt := 48) (pc' := 12) rfl rfl (fun c_6 => ?_) (fun c_6 => ?_)
  · replace w := w.1 c_6
    exact w_X29_check_48 w
  · replace w := w.2 c_6
    refine jw_aload_n (pc' := 13) rfl rfl ?_
    refine jw_getR (pc' := 16) (F := 116) (t' := 64) rfl rfl rfl rfl rfl g_1 ?_
    refine jw_ldcS (pc' := 18) rfl rfl rfl rfl ?_
    obtain ⟨g_7, w⟩ := w
    refine jw_cI (st := []) (sa := [vR 64 (jfr h_3 116 r0), vR 51 (jcs D 158)]) okJ5_equals rfl rfl rfl rfl rfl rfl (jstp_virtual (sa := [vR 51 (jcs D 158)]) (st := []) (k := 0) rfl rfl sJ5_equals okJ5_equals g_7 (one64.k g_7) rfl rfl) w (fun v_10 h_8 _ _ w => ?_)
    refine jw_if_ne (tgt := 48) (pc' := 24) rfl rfl (fun c_11 => ?_) (fun c_11 => ?_)
    · replace w := w.1 c_11
      exact w_X29_check_48 w
    · replace w := w.2 c_11
      refine jw_aload_n (pc' := 25) rfl rfl ?_
      refine jw_getR (pc' := 28) (F := 116) (t' := 64) rfl rfl rfl rfl rfl g_1 ?_
      refine jw_ldcS (pc' := 30) rfl rfl rfl rfl ?_
      obtain ⟨g_12, w⟩ := w
      refine jw_cI (st := []) (sa := [vR 64 (jfr h_8 116 r0), vR 51 (jcs D 159)]) okJ5_equals rfl rfl rfl rfl rfl rfl (jstp_virtual (sa := [vR 51 (jcs D 159)]) (st := []) (k := 0) rfl rfl sJ5_equals okJ5_equals g_12 (one64.k g_12) rfl rfl) w (fun v_15 h_13 _ _ w => ?_)
      refine jw_if_ne (tgt := 48) (pc' := 36) rfl rfl (fun c_16 => ?_) (fun c_16 => ?_)
      · replace w := w.1 c_16
        exact w_X29_check_48 w
      · replace w := w.2 c_16
        refine jw_aload_n (pc' := 37) rfl rfl ?_
        refine jw_getR (pc' := 40) (F := 116) (t' := 64) rfl rfl rfl rfl rfl g_1 ?_
        refine jw_ldcS (pc' := 42) rfl rfl rfl rfl ?_
        obtain ⟨g_17, w⟩ := w
        refine jw_cI (st := []) (sa := [vR 64 (jfr h_13 116 r0), vR 51 (jcs D 160)]) okJ5_equals rfl rfl rfl rfl rfl rfl (jstp_virtual (sa := [vR 51 (jcs D 160)]) (st := []) (k := 0) rfl rfl sJ5_equals okJ5_equals g_17 (one64.k g_17) rfl rfl) w (fun v_20 h_18 _ _ w => ?_)
        refine jw_if_eq (tgt := 64) (pc' := 48) rfl rfl (fun c_21 => ?_) (fun c_21 => ?_)
        · replace w := w.1 c_21
          refine jw_aload_n (pc' := 65) rfl rfl ?_
          refine jw_getR (pc' := 68) (F := 116) (t' := 64) rfl rfl rfl rfl rfl g_1 ?_
          refine jw_ldcS (pc' := 70) rfl rfl rfl rfl ?_
          obtain ⟨g_22, w⟩ := w
          refine jw_cI (st := []) (sa := [vR 64 (jfr h_18 116 r0), vR 51 (jcs D 161)]) okJ5_equals rfl rfl rfl rfl rfl rfl (jstp_virtual (sa := [vR 51 (jcs D 161)]) (st := []) (k := 0) rfl rfl sJ5_equals okJ5_equals g_22 (one64.k g_22) rfl rfl) w (fun v_25 h_23 _ _ w => ?_)
          refine jw_if_eq (tgt := 92) (pc' := 76) rfl rfl (fun c_26 => ?_) (fun c_26 => ?_)
          · replace w := w.1 c_26
            refine jw_aload_n (pc' := 93) rfl rfl ?_
            refine jw_getR (pc' := 96) (F := 116) (t' := 64) rfl rfl rfl rfl rfl g_1 ?_
            refine jw_ldcS (pc' := 98) rfl rfl rfl rfl ?_
            obtain ⟨g_27, w⟩ := w
            refine jw_cI (st := []) (sa := [vR 64 (jfr h_23 116 r0), vR 51 (jcs D 162)]) okJ5_equals rfl rfl rfl rfl rfl rfl (jstp_virtual (sa := [vR 51 (jcs D 162)]) (st := []) (k := 0) rfl rfl sJ5_equals okJ5_equals g_27 (one64.k g_27) rfl rfl) w (fun v_30 h_28 _ _ w => ?_)
            refine jw_if_eq (tgt := 119) (pc' := 104) rfl rfl (fun c_31 => ?_) (fun c_31 => ?_)
            · replace w := w.1 c_31
              refine jw_aload_n (pc' := 120) rfl rfl ?_
              refine jw_getR (pc' := 123) (F := 116) (t' := 64) rfl rfl rfl rfl rfl g_1 ?_
              refine jw_ldcS (pc' := 125) rfl rfl rfl rfl ?_
              obtain ⟨g_32, w⟩ := w
              refine jw_cI (st := []) (sa := [vR 64 (jfr h_28 116 r0), vR 51 (jcs D 163)]) okJ5_equals rfl rfl rfl rfl rfl rfl (jstp_virtual (sa := [vR 51 (jcs D 163)]) (st := []) (k := 0) rfl rfl sJ5_equals okJ5_equals g_32 (one64.k g_32) rfl rfl) w (fun v_35 h_33 _ _ w => ?_)
              refine jw_if_eq (tgt := 143) (pc' := 131) rfl rfl (fun c_36 => ?_) (fun c_36 => ?_)
              · replace w := w.1 c_36
                exact w_X29_check_143 w
              · replace w := w.2 c_36
                refine jw_aload_n (pc' := 132) rfl rfl ?_
                refine jw_getI (pc' := 135) (F := 112) rfl rfl rfl rfl g_1 ?_
                refine jw_iconst (pc' := 136) (x := (2 : Int32)) rfl rfl ?_
                refine jw_icmp_ne (tgt := 143) (pc' := 139) rfl rfl (fun c_37 => ?_) (fun c_37 => ?_)
                · replace w := w.1 c_37
                  exact w_X29_check_143 w
                · replace w := w.2 c_37
                  refine jw_iconst (pc' := 140) (x := (1 : Int32)) rfl rfl ?_
                  refine jw_goto (pc' := 144) rfl rfl ?_
                  exact w_X29_check_144 w
            · replace w := w.2 c_31
              refine jw_aload_n (pc' := 105) rfl rfl ?_
              refine jw_getI (pc' := 108) (F := 112) rfl rfl rfl rfl g_1 ?_
              refine jw_if_le (tgt := 115) (pc' := 111) rfl rfl (fun c_38 => ?_) (fun c_38 => ?_)
              · replace w := w.1 c_38
                refine jw_iconst (pc' := 116) (x := (0 : Int32)) rfl rfl ?_
                refine jw_goto (pc' := 144) rfl rfl ?_
                exact w_X29_check_144 w
              · replace w := w.2 c_38
                refine jw_iconst (pc' := 112) (x := (1 : Int32)) rfl rfl ?_
                refine jw_goto (pc' := 144) rfl rfl ?_
                exact w_X29_check_144 w
          · replace w := w.2 c_26
            refine jw_aload_n (pc' := 77) rfl rfl ?_
            refine jw_getI (pc' := 80) (F := 112) rfl rfl rfl rfl g_1 ?_
            refine jw_iconst (pc' := 81) (x := (3 : Int32)) rfl rfl ?_
            refine jw_icmp_ne (tgt := 88) (pc' := 84) rfl rfl (fun c_39 => ?_) (fun c_39 => ?_)
            · replace w := w.1 c_39
              refine jw_iconst (pc' := 89) (x := (0 : Int32)) rfl rfl ?_
              refine jw_goto (pc' := 144) rfl rfl ?_
              exact w_X29_check_144 w
            · replace w := w.2 c_39
              refine jw_iconst (pc' := 85) (x := (1 : Int32)) rfl rfl ?_
              refine jw_goto (pc' := 144) rfl rfl ?_
              exact w_X29_check_144 w
        · replace w := w.2 c_21
          exact w_X29_check_48 w
def T_X29_check (D : JD) (d : Nat) (Q : JO → JH → Prop) (r0 : Nat) (r1 : Nat) (h : JH) : Prop := W_X29_check_0 D d Q r0 r1 h
theorem t_X29_check {D : JD} {d : Nat} {Q : JO → JH → Prop} {r0 : Nat} {r1 : Nat} {h : JH} (w : T_X29_check D d Q r0 r1 h) : cX29_check D (d + 1) r0 r1 h Q := by
  unfold T_X29_check at w
  unfold cX29_check
  exact w_X29_check_0 w
def W_X29_like_37 (D : JD) (d : Nat) (Q : JO → JH → Prop) (s0 : Int32) (h : JH) : Prop :=
  jbo s0 ∧ (Q (.inl (some (vI s0))) h)
theorem w_X29_like_37 {D : JD} {d : Nat} {Q : JO → JH → Prop} {s0 : Int32} {h : JH} (w : W_X29_like_37 D d Q s0 h) : JW D (d + 1) mX29_like 37 [none, none] [vI s0] h Q := by
  unfold W_X29_like_37 at w
  obtain ⟨g_1, w⟩ := w
  exact jw_ireturn rfl rfl (g_1.nr) w
def W_X29_like_36 (D : JD) (d : Nat) (Q : JO → JH → Prop) (h : JH) : Prop :=
  W_X29_like_37 D d Q (0 : Int32) h
theorem w_X29_like_36 {D : JD} {d : Nat} {Q : JO → JH → Prop} {h : JH} (w : W_X29_like_36 D d Q h) : JW D (d + 1) mX29_like 36 [none, none] [] h Q := by
  unfold W_X29_like_36 at w
  refine jw_iconst (pc' := 37) (x := (0 : Int32)) rfl rfl ?_
  exact w_X29_like_37 w
def W_X29_like_0 (D : JD) (d : Nat) (Q : JO → JH → Prop) (r0 : Nat) (r1 : Nat) (h : JH) : Prop :=
  ((r1 ≠ 0 ∧ jkd h r1 = 23) → (r1 = 0 ∨ jkd h r1 = 23) ∧ (r1 ≠ 0 ∧ (r0 ≠ 0 ∧ ((jfr h 116 r1) ≠ 0 ∧ (cJ5_equals D d (jfr h 116 r1) (jfr h 116 r0) h (pI D h (fun v_9 h_7 => (v_9 = 0 → W_X29_like_36 D d Q h_7) ∧ (¬ v_9 = 0 → cX24_likeParts D d r0 r1 h_7 (pI D h_7 (fun v_13 h_11 => (v_13 = 0 → W_X29_like_36 D d Q h_11) ∧ (¬ v_13 = 0 → W_X29_like_37 D d Q (1 : Int32) h_11)) (jth Q)))) (jth Q))))))) ∧ (¬ (r1 ≠ 0 ∧ jkd h r1 = 23) → W_X29_like_36 D d Q h)
theorem w_X29_like_0 {D : JD} {d : Nat} {Q : JO → JH → Prop} {r0 : Nat} {r1 : Nat} {h : JH} (w : W_X29_like_0 D d Q r0 r1 h) : JW D (d + 1) mX29_like 0 [some (vR 23 r0), some (vR 55 r1)] [] h Q := by
  unfold W_X29_like_0 at w
  refine jw_aload_n (pc' := 1) rfl rfl ?_
  refine jw_inst (pc' := 4) (t := 55) (kt := 23) rfl rfl rfl rfl (by decide +kernel) (fun c_1 => ?_) (fun c_1 => ?_)
  · replace w := w.1 c_1
    refine jw_if_eq (tgt := 36) (pc' := 7) rfl rfl (fun c_2 => absurd c_2 (by decide)) (fun _ => ?_)
    refine jw_aload_n (pc' := 8) rfl rfl ?_
    obtain ⟨g_3, w⟩ := w
    refine jw_cast (pc' := 11) (t2 := 23) rfl rfl rfl rfl g_3 ?_
    obtain ⟨g_4, w⟩ := w
    refine jw_getR (pc' := 14) (F := 116) (t' := 64) rfl rfl rfl rfl rfl g_4 ?_
    refine jw_aload_n (pc' := 15) rfl rfl ?_
    obtain ⟨g_5, w⟩ := w
    refine jw_getR (pc' := 18) (F := 116) (t' := 64) rfl rfl rfl rfl rfl g_5 ?_
    obtain ⟨g_6, w⟩ := w
    refine jw_cI (st := []) (sa := [vR 64 (jfr h 116 r1), vR 64 (jfr h 116 r0)]) okJ5_equals rfl rfl rfl rfl rfl rfl (jstp_virtual (sa := [vR 64 (jfr h 116 r0)]) (st := []) (k := 0) rfl rfl sJ5_equals okJ5_equals g_6 (one64.k g_6) rfl rfl) w (fun v_9 h_7 _ _ w => ?_)
    refine jw_if_eq (tgt := 36) (pc' := 24) rfl rfl (fun c_10 => ?_) (fun c_10 => ?_)
    · replace w := w.1 c_10
      refine jw_gen (ls' := [none, none]) (st' := []) (trivial) (trivial) ?_
      exact w_X29_like_36 w
    · replace w := w.2 c_10
      refine jw_aload_n (pc' := 25) rfl rfl ?_
      refine jw_aload_n (pc' := 26) rfl rfl ?_
      refine jw_cI (st := []) (sa := [vR 23 r0, vR 55 r1]) okX24_likeParts rfl rfl rfl rfl rfl rfl (jstp_up (sa := [vR 55 r1]) (st := []) rfl (lw_g (jtb_mem (c := 11) (i := 43) rfl) rfl) um101 okX24_likeParts g_5 (one23.k g_5) rfl rfl) w (fun v_13 h_11 _ _ w => ?_)
      refine jw_if_eq (tgt := 36) (pc' := 32) rfl rfl (fun c_14 => ?_) (fun c_14 => ?_)
      · replace w := w.1 c_14
        refine jw_gen (ls' := [none, none]) (st' := []) (trivial) (trivial) ?_
        exact w_X29_like_36 w
      · replace w := w.2 c_14
        refine jw_iconst (pc' := 33) (x := (1 : Int32)) rfl rfl ?_
        refine jw_goto (pc' := 37) rfl rfl ?_
        refine jw_gen (ls' := [none, none]) (st' := [vI (1 : Int32)]) (trivial) (And.intro (Or.inl rfl) (trivial)) ?_
        exact w_X29_like_37 w
  · replace w := w.2 c_1
    refine jw_if_eq (tgt := 36) (pc' := 7) rfl rfl (fun _ => ?_) (fun c_15 => absurd c_15 (by decide))
    refine jw_gen (ls' := [none, none]) (st' := []) (trivial) (trivial) ?_
    exact w_X29_like_36 w
def T_X29_like (D : JD) (d : Nat) (Q : JO → JH → Prop) (r0 : Nat) (r1 : Nat) (h : JH) : Prop := W_X29_like_0 D d Q r0 r1 h
theorem t_X29_like {D : JD} {d : Nat} {Q : JO → JH → Prop} {r0 : Nat} {r1 : Nat} {h : JH} (w : T_X29_like D d Q r0 r1 h) : cX29_like D (d + 1) r0 r1 h Q := by
  unfold T_X29_like at w
  unfold cX29_like
  exact w_X29_like_0 w
def W_X29_title_0 (D : JD) (d : Nat) (Q : JO → JH → Prop) (r0 : Nat) (h : JH) : Prop :=
  r0 ≠ 0 ∧ (Q (.inl (some (vR 64 (jfr h 116 r0)))) h)
theorem w_X29_title_0 {D : JD} {d : Nat} {Q : JO → JH → Prop} {r0 : Nat} {h : JH} (w : W_X29_title_0 D d Q r0 h) : JW D (d + 1) mX29_title 0 [some (vR 23 r0)] [] h Q := by
  unfold W_X29_title_0 at w
  refine jw_aload_n (pc' := 1) rfl rfl ?_
  obtain ⟨g_1, w⟩ := w
  refine jw_getR (pc' := 4) (F := 116) (t' := 64) rfl rfl rfl rfl rfl g_1 ?_
  exact jw_areturn rfl rfl rfl rfl rfl w
def T_X29_title (D : JD) (d : Nat) (Q : JO → JH → Prop) (r0 : Nat) (h : JH) : Prop := W_X29_title_0 D d Q r0 h
theorem t_X29_title {D : JD} {d : Nat} {Q : JO → JH → Prop} {r0 : Nat} {h : JH} (w : T_X29_title D d Q r0 h) : cX29_title D (d + 1) r0 h Q := by
  unfold T_X29_title at w
  unfold cX29_title
  exact w_X29_title_0 w
