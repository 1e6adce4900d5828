/-! what each method needs (printed by tools/gen_wp.py) -/
set_option maxRecDepth 4000
def W_X17_select_295 (D : JD) (d : Nat) (Q : JO → JH → Prop) (r1 : Nat) (h : JH) : Prop :=
  Q (.inl (some (vR 57 r1))) h
theorem w_X17_select_295 {D : JD} {d : Nat} {Q : JO → JH → Prop} {r1 : Nat} {h : JH} (w : W_X17_select_295 D d Q r1 h) : JW D (d + 1) mX17_select 295 [none, some (vR 33 r1), none] [] h Q := by
  unfold W_X17_select_295 at w
  refine jw_aload_n (pc' := 296) rfl rfl ?_
  exact jw_areturn rfl rfl rfl rfl rfl w
def W_X17_select_274 (D : JD) (d : Nat) (Q : JO → JH → Prop) (r0 : Nat) (r1 : Nat) (h : JH) : Prop :=
  r0 ≠ 0 ∧ ((jfr h 79 r0) ≠ 0 ∧ (cX18_takesWord D d (jfr h 79 r0) (jcs D 150) h (pI D h (fun v_5 h_3 => (v_5 = 0 → W_X17_select_295 D d Q r1 h_3) ∧ (¬ v_5 = 0 → cX17_integer D d r0 h_3 (pL D h_3 (fun v_8 h_7 => r1 ≠ 0 ∧ ∀ h_10 : JH, h_10 = wfl h_7 155 r1 v_8 → (W_X17_select_295 D d Q r1 h_10)) (jth Q)))) (jth Q))))
theorem w_X17_select_274 {D : JD} {d : Nat} {Q : JO → JH → Prop} {r0 : Nat} {r1 : Nat} {h : JH} (w : W_X17_select_274 D d Q r0 r1 h) : JW D (d + 1) mX17_select 274 [some (vR 14 r0), some (vR 33 r1), none] [] h Q := by
  unfold W_X17_select_274 at w
  refine jw_aload_n (pc' := 275) rfl rfl ?_
  obtain ⟨g_1, w⟩ := w
  refine jw_getR (pc' := 278) (F := 79) (t' := 15) rfl rfl rfl rfl rfl g_1 ?_
  refine jw_ldcwS (pc' := 281) rfl rfl rfl rfl ?_
  obtain ⟨g_2, w⟩ := w
  refine jw_cI (st := []) (sa := [vR 15 (jfr h 79 r0), vR 51 (jcs D 150)]) okX18_takesWord rfl rfl rfl rfl rfl rfl (jstp_virtual (sa := [vR 51 (jcs D 150)]) (st := []) (k := 0) rfl rfl sX18_takesWord okX18_takesWord g_2 (one15.k g_2) rfl rfl) w (fun v_5 h_3 _ _ w => ?_)
  refine jw_if_eq (tgt := 295) (pc' := 287) rfl rfl (fun c_6 => ?_) (fun c_6 => ?_)
  · replace w := w.1 c_6
    refine jw_gen (ls' := [none, some (vR 33 r1), none]) (st' := []) (And.intro (Or.inl rfl) (trivial)) (trivial) ?_
    exact w_X17_select_295 w
  · replace w := w.2 c_6
    refine jw_aload_n (pc' := 288) rfl rfl ?_
    refine jw_aload_n (pc' := 289) rfl rfl ?_
    refine jw_cL (st := [vR 33 r1]) (sa := [vR 14 r0]) okX17_integer rfl rfl rfl rfl rfl rfl (jstp_virtual (sa := []) (st := [vR 33 r1]) (k := 0) rfl rfl sX17_integer okX17_integer g_1 (one14.k g_1) rfl rfl) w (fun v_8 h_7 _ _ w => ?_)
    obtain ⟨g_9, w⟩ := w
    refine jw_putL' (pc' := 295) (F := 155) rfl rfl rfl (Or.inr rfl) (Or.inl rfl) rfl rfl rfl g_9 (fun h_10 e_11 => ?_)
    replace w := w h_10 e_11
    refine jw_gen (ls' := [none, some (vR 33 r1), none]) (st' := []) (And.intro (Or.inl rfl) (trivial)) (trivial) ?_
    exact w_X17_select_295 w
def W_X17_select_253 (D : JD) (d : Nat) (Q : JO → JH → Prop) (r0 : Nat) (r1 : Nat) (h : JH) : Prop :=
  r0 ≠ 0 ∧ ((jfr h 79 r0) ≠ 0 ∧ (cX18_takesWord D d (jfr h 79 r0) (jcs D 149) h (pI D h (fun v_5 h_3 => (v_5 = 0 → W_X17_select_274 D d Q r0 r1 h_3) ∧ (¬ v_5 = 0 → cX17_integer D d r0 h_3 (pL D h_3 (fun v_8 h_7 => r1 ≠ 0 ∧ ∀ h_10 : JH, h_10 = wfl h_7 154 r1 v_8 → (W_X17_select_274 D d Q r0 r1 h_10)) (jth Q)))) (jth Q))))
theorem w_X17_select_253 {D : JD} {d : Nat} {Q : JO → JH → Prop} {r0 : Nat} {r1 : Nat} {h : JH} (w : W_X17_select_253 D d Q r0 r1 h) : JW D (d + 1) mX17_select 253 [some (vR 14 r0), some (vR 33 r1), none] [] h Q := by
  unfold W_X17_select_253 at w
  refine jw_aload_n (pc' := 254) rfl rfl ?_
  obtain ⟨g_1, w⟩ := w
  refine jw_getR (pc' := 257) (F := 79) (t' := 15) rfl rfl rfl rfl rfl g_1 ?_
  refine jw_ldcwS (pc' := 260) rfl rfl rfl rfl ?_
  obtain ⟨g_2, w⟩ := w
  refine jw_cI (st := []) (sa := [vR 15 (jfr h 79 r0), vR 51 (jcs D 149)]) okX18_takesWord rfl rfl rfl rfl rfl rfl (jstp_virtual (sa := [vR 51 (jcs D 149)]) (st := []) (k := 0) rfl rfl sX18_takesWord okX18_takesWord g_2 (one15.k g_2) rfl rfl) w (fun v_5 h_3 _ _ w => ?_)
  refine jw_if_eq (tgt := 274) (pc' := 266) rfl rfl (fun c_6 => ?_) (fun c_6 => ?_)
  · replace w := w.1 c_6
    exact w_X17_select_274 w
  · replace w := w.2 c_6
    refine jw_aload_n (pc' := 267) rfl rfl ?_
    refine jw_aload_n (pc' := 268) rfl rfl ?_
    refine jw_cL (st := [vR 33 r1]) (sa := [vR 14 r0]) okX17_integer rfl rfl rfl rfl rfl rfl (jstp_virtual (sa := []) (st := [vR 33 r1]) (k := 0) rfl rfl sX17_integer okX17_integer g_1 (one14.k g_1) rfl rfl) w (fun v_8 h_7 _ _ w => ?_)
    obtain ⟨g_9, w⟩ := w
    refine jw_putL' (pc' := 274) (F := 154) rfl rfl rfl (Or.inr rfl) (Or.inl rfl) rfl rfl rfl g_9 (fun h_10 e_11 => ?_)
    replace w := w h_10 e_11
    exact w_X17_select_274 w
def W_X17_select_235 (D : JD) (d : Nat) (Q : JO → JH → Prop) (r0 : Nat) (r1 : Nat) (h : JH) : Prop :=
  r0 ≠ 0 ∧ ((jfr h 79 r0) ≠ 0 ∧ (cX18_takesWord D d (jfr h 79 r0) (jcs D 146) h (pI D h (fun v_5 h_3 => (v_5 = 0 → W_X17_select_253 D d Q r0 r1 h_3) ∧ (¬ v_5 = 0 → cX17_orders D d r0 r1 h_3 (pV D h_3 (fun h_7 => W_X17_select_253 D d Q r0 r1 h_7) (jth Q)))) (jth Q))))
theorem w_X17_select_235 {D : JD} {d : Nat} {Q : JO → JH → Prop} {r0 : Nat} {r1 : Nat} {h : JH} (w : W_X17_select_235 D d Q r0 r1 h) : JW D (d + 1) mX17_select 235 [some (vR 14 r0), some (vR 33 r1), none] [] h Q := by
  unfold W_X17_select_235 at w
  refine jw_aload_n (pc' := 236) rfl rfl ?_
  obtain ⟨g_1, w⟩ := w
  refine jw_getR (pc' := 239) (F := 79) (t' := 15) rfl rfl rfl rfl rfl g_1 ?_
  refine jw_ldcwS (pc' := 242) rfl rfl rfl rfl ?_
  obtain ⟨g_2, w⟩ := w
  refine jw_cI (st := []) (sa := [vR 15 (jfr h 79 r0), vR 51 (jcs D 146)]) okX18_takesWord rfl rfl rfl rfl rfl rfl (jstp_virtual (sa := [vR 51 (jcs D 146)]) (st := []) (k := 0) rfl rfl sX18_takesWord okX18_takesWord g_2 (one15.k g_2) rfl rfl) w (fun v_5 h_3 _ _ w => ?_)
  refine jw_if_eq (tgt := 253) (pc' := 248) rfl rfl (fun c_6 => ?_) (fun c_6 => ?_)
  · replace w := w.1 c_6
    exact w_X17_select_253 w
  · replace w := w.2 c_6
    refine jw_aload_n (pc' := 249) rfl rfl ?_
    refine jw_aload_n (pc' := 250) rfl rfl ?_
    refine jw_cV (st := []) (sa := [vR 14 r0, vR 33 r1]) okX17_orders rfl rfl rfl rfl rfl rfl (jstp_virtual (sa := [vR 33 r1]) (st := []) (k := 0) rfl rfl sX17_orders okX17_orders g_1 (one14.k g_1) rfl rfl) w (fun h_7 _ _ w => ?_)
    exact w_X17_select_253 w
def W_X17_select_214 (D : JD) (d : Nat) (Q : JO → JH → Prop) (r0 : Nat) (r1 : Nat) (h : JH) : Prop :=
  r0 ≠ 0 ∧ ((jfr h 79 r0) ≠ 0 ∧ (cX18_takesWord D d (jfr h 79 r0) (jcs D 145) h (pI D h (fun v_5 h_3 => (v_5 = 0 → W_X17_select_235 D d Q r0 r1 h_3) ∧ (¬ v_5 = 0 → cX17_expression D d r0 h_3 (pR D h_3 55 (fun v_9 h_7 => r1 ≠ 0 ∧ ∀ h_11 : JH, h_11 = wfr h_7 149 r1 v_9 → (W_X17_select_235 D d Q r0 r1 h_11)) (jth Q)))) (jth Q))))
theorem w_X17_select_214 {D : JD} {d : Nat} {Q : JO → JH → Prop} {r0 : Nat} {r1 : Nat} {h : JH} (w : W_X17_select_214 D d Q r0 r1 h) : JW D (d + 1) mX17_select 214 [some (vR 14 r0), some (vR 33 r1), none] [] h Q := by
  unfold W_X17_select_214 at w
  refine jw_aload_n (pc' := 215) rfl rfl ?_
  obtain ⟨g_1, w⟩ := w
  refine jw_getR (pc' := 218) (F := 79) (t' := 15) rfl rfl rfl rfl rfl g_1 ?_
  refine jw_ldcwS (pc' := 221) rfl rfl rfl rfl ?_
  obtain ⟨g_2, w⟩ := w
  refine jw_cI (st := []) (sa := [vR 15 (jfr h 79 r0), vR 51 (jcs D 145)]) okX18_takesWord rfl rfl rfl rfl rfl rfl (jstp_virtual (sa := [vR 51 (jcs D 145)]) (st := []) (k := 0) rfl rfl sX18_takesWord okX18_takesWord g_2 (one15.k g_2) rfl rfl) w (fun v_5 h_3 _ _ w => ?_)
  refine jw_if_eq (tgt := 235) (pc' := 227) rfl rfl (fun c_6 => ?_) (fun c_6 => ?_)
  · replace w := w.1 c_6
    exact w_X17_select_235 w
  · replace w := w.2 c_6
    refine jw_aload_n (pc' := 228) rfl rfl ?_
    refine jw_aload_n (pc' := 229) rfl rfl ?_
    refine jw_cR (st := [vR 33 r1]) (sa := [vR 14 r0]) okX17_expression rfl rfl rfl rfl rfl rfl (jstp_virtual (sa := []) (st := [vR 33 r1]) (k := 0) rfl rfl sX17_expression okX17_expression g_1 (one14.k g_1) rfl rfl) w (fun v_9 h_7 _ _ _ w => ?_)
    obtain ⟨g_10, w⟩ := w
    refine jw_putR' (pc' := 235) (F := 149) rfl rfl rfl (Or.inr rfl) (Or.inl rfl) rfl rfl rfl g_10 (fun h_11 e_12 => ?_)
    replace w := w h_11 e_12
    exact w_X17_select_235 w
def W_X17_select_165 (D : JD) (d : Nat) (Q : JO → JH → Prop) (K165 : Nat → Nat → JH → Prop) (r0 : Nat) (r1 : Nat) (h : JH) : Prop :=
  r1 ≠ 0 ∧ ((¬ (jfi h 148 r1) = (8 : Int32) → r0 ≠ 0 ∧ (cX17_expression D d r0 h (pR D h 55 (fun v_6 h_4 => (jfr h 147 r1) ≠ 0 ∧ jin (jfi h 148 r1) (jln h_4 (jfr h 147 r1)) ∧ ∀ h_9 : JH, h_9 = war h_4 (jfr h 147 r1) (ixn (jfi h 148 r1)) v_6 → (∀ h_11 : JH, h_11 = wfi h_9 148 r1 ((jfi h_9 148 r1) + (1 : Int32)) → ((jfr h_11 79 r0) ≠ 0 ∧ (cX18_takes D d (jfr h_11 79 r0) (jcs D 100) h_11 (pI D h_11 (fun v_16 h_14 => (¬ v_16 = 0 → K165 r0 r1 h_14) ∧ (v_16 = 0 → W_X17_select_214 D d Q r0 r1 h_14)) (jth Q)))))) (jth Q)))) ∧ ((jfi h 148 r1) = (8 : Int32) → r0 ≠ 0 ∧ (cX17_broken D d r0 h (pR D h 9 (fun v_21 h_19 => v_21 ≠ 0 ∧ (Q (.inr v_21) h_19)) (jth Q)))))
theorem w_X17_select_165 {D : JD} {d : Nat} {Q : JO → JH → Prop} {K165 : Nat → Nat → JH → Prop} {r0 : Nat} {r1 : Nat} {h : JH} (hK165 : ∀ (r0 : Nat) (r1 : Nat) (h : JH), K165 r0 r1 h → JW D (d + 1) mX17_select 165 [some (vR 14 r0), some (vR 33 r1), none] [] h Q) (w : W_X17_select_165 D d Q K165 r0 r1 h) : JW D (d + 1) mX17_select 165 [some (vR 14 r0), some (vR 33 r1), none] [] h Q := by
  unfold W_X17_select_165 at w
  refine jw_aload_n (pc' := 166) rfl rfl ?_
  obtain ⟨g_1, w⟩ := w
  refine jw_getI (pc' := 169) (F := 148) rfl rfl rfl rfl g_1 ?_
  refine jw_bipush (pc' := 171) (x := (8 : Int32)) rfl rfl ?_
  refine jw_icmp_ne (tgt := 179) (pc' := 174) rfl rfl (fun c_2 => ?_) (fun c_2 => ?_)
  · replace w := w.1 c_2
    refine jw_aload_n (pc' := 180) rfl rfl ?_
    refine jw_getR (pc' := 183) (F := 147) (t' := 154) rfl rfl rfl rfl rfl g_1 ?_
    refine jw_aload_n (pc' := 184) rfl rfl ?_
    refine jw_getI (pc' := 187) (F := 148) rfl rfl rfl rfl g_1 ?_
    refine jw_aload_n (pc' := 188) rfl rfl ?_
    obtain ⟨g_3, w⟩ := w
    refine jw_cR (st := [vI (jfi h 148 r1), vR 154 (jfr h 147 r1)]) (sa := [vR 14 r0]) okX17_expression rfl rfl rfl rfl rfl rfl (jstp_virtual (sa := []) (st := [vI (jfi h 148 r1), vR 154 (jfr h 147 r1)]) (k := 0) rfl rfl sX17_expression okX17_expression g_3 (one14.k g_3) rfl rfl) w (fun v_6 h_4 _ _ _ w => ?_)
    obtain ⟨g_7, w⟩ := w
    obtain ⟨g_8, w⟩ := w
    refine jw_aast' (pc' := 192) rfl rfl rfl rfl rfl rfl g_7 g_8 (fun h_9 e_10 => ?_)
    replace w := w h_9 e_10
    refine jw_aload_n (pc' := 193) rfl rfl ?_
    refine jw_dup (pc' := 194) rfl rfl ?_
    refine jw_getI (pc' := 197) (F := 148) rfl rfl rfl rfl g_1 ?_
    refine jw_iconst (pc' := 198) (x := (1 : Int32)) rfl rfl ?_
    refine jw_iadd (pc' := 199) rfl ?_
    refine jw_putI' (pc' := 202) (F := 148) rfl rfl rfl (Or.inr rfl) (Or.inl rfl) rfl (rfl) (rfl) rfl g_1 (fun h_11 e_12 => ?_)
    replace w := w h_11 e_12
    refine jw_aload_n (pc' := 203) rfl rfl ?_
    refine jw_getR (pc' := 206) (F := 79) (t' := 15) rfl rfl rfl rfl rfl g_3 ?_
    refine jw_ldcS (pc' := 208) rfl rfl rfl rfl ?_
    obtain ⟨g_13, w⟩ := w
    refine jw_cI (st := []) (sa := [vR 15 (jfr h_11 79 r0), vR 51 (jcs D 100)]) okX18_takes rfl rfl rfl rfl rfl rfl (jstp_virtual (sa := [vR 51 (jcs D 100)]) (st := []) (k := 0) rfl rfl sX18_takes okX18_takes g_13 (one15.k g_13) rfl rfl) w (fun v_16 h_14 _ _ w => ?_)
    refine jw_if_ne (tgt := 165) (pc' := 214) rfl rfl (fun c_17 => ?_) (fun c_17 => ?_)
    · replace w := w.1 c_17
      exact hK165 _ _ _ w
    · replace w := w.2 c_17
      exact w_X17_select_214 w
  · replace w := w.2 c_2
    refine jw_aload_n (pc' := 175) rfl rfl ?_
    obtain ⟨g_18, w⟩ := w
    refine jw_cR (st := []) (sa := [vR 14 r0]) okX17_broken rfl rfl rfl rfl rfl rfl (jstp_virtual (sa := []) (st := []) (k := 0) rfl rfl sX17_broken okX17_broken g_18 (one14.k g_18) rfl rfl) w (fun v_21 h_19 _ _ _ w => ?_)
    obtain ⟨g_22, w⟩ := w
    exact jw_athrow rfl rfl g_22 w
def L_X17_select_165 (D : JD) (d : Nat) (Q : JO → JH → Prop) : Nat → Nat → Nat → JH → Prop
  | 0 => fun _ _ _ => False
  | n + 1 => fun r0 r1 h => W_X17_select_165 D d Q (L_X17_select_165 D d Q n) r0 r1 h
theorem l_X17_select_165 {D : JD} {d : Nat} {Q : JO → JH → Prop} : ∀ (n : Nat) (r0 : Nat) (r1 : Nat) (h : JH), L_X17_select_165 D d Q n r0 r1 h → JW D (d + 1) mX17_select 165 [some (vR 14 r0), some (vR 33 r1), none] [] h Q := by
  intro n
  induction n with
  | zero => intro _ _ _ w; exact w.elim
  | succ n ih => intro _ _ h w; exact w_X17_select_165 ih w
def W_X17_select_135 (D : JD) (d : Nat) (Q : JO → JH → Prop) (r0 : Nat) (r1 : Nat) (h : JH) : Prop :=
  r0 ≠ 0 ∧ (cX17_where D d r0 h (pR D h 55 (fun v_4 h_2 => r1 ≠ 0 ∧ ∀ h_6 : JH, h_6 = wfr h_2 146 r1 v_4 → ((jfr h_6 79 r0) ≠ 0 ∧ (cX18_takesWord D d (jfr h_6 79 r0) (jcs D 143) h_6 (pI D h_6 (fun v_11 h_9 => (v_11 = 0 → W_X17_select_214 D d Q r0 r1 h_9) ∧ (¬ v_11 = 0 → (jfr h_9 79 r0) ≠ 0 ∧ (cX18_needWord D d (jfr h_9 79 r0) (jcs D 144) h_9 (pV D h_9 (fun h_14 => ∃ n, L_X17_select_165 D d Q n r0 r1 h_14) (jth Q))))) (jth Q))))) (jth Q)))
theorem w_X17_select_135 {D : JD} {d : Nat} {Q : JO → JH → Prop} {r0 : Nat} {r1 : Nat} {h : JH} (w : W_X17_select_135 D d Q r0 r1 h) : JW D (d + 1) mX17_select 135 [some (vR 14 r0), some (vR 33 r1), none] [] h Q := by
  unfold W_X17_select_135 at w
  refine jw_aload_n (pc' := 136) rfl rfl ?_
  refine jw_aload_n (pc' := 137) rfl rfl ?_
  obtain ⟨g_1, w⟩ := w
  refine jw_cR (st := [vR 33 r1]) (sa := [vR 14 r0]) okX17_where rfl rfl rfl rfl rfl rfl (jstp_virtual (sa := []) (st := [vR 33 r1]) (k := 0) rfl rfl sX17_where okX17_where g_1 (one14.k g_1) rfl rfl) w (fun v_4 h_2 _ _ _ w => ?_)
  obtain ⟨g_5, w⟩ := w
  refine jw_putR' (pc' := 143) (F := 146) rfl rfl rfl (Or.inr rfl) (Or.inl rfl) rfl rfl rfl g_5 (fun h_6 e_7 => ?_)
  replace w := w h_6 e_7
  refine jw_aload_n (pc' := 144) rfl rfl ?_
  refine jw_getR (pc' := 147) (F := 79) (t' := 15) rfl rfl rfl rfl rfl g_1 ?_
  refine jw_ldcS (pc' := 149) rfl rfl rfl rfl ?_
  obtain ⟨g_8, w⟩ := w
  refine jw_cI (st := []) (sa := [vR 15 (jfr h_6 79 r0), vR 51 (jcs D 143)]) okX18_takesWord rfl rfl rfl rfl rfl rfl (jstp_virtual (sa := [vR 51 (jcs D 143)]) (st := []) (k := 0) rfl rfl sX18_takesWord okX18_takesWord g_8 (one15.k g_8) rfl rfl) w (fun v_11 h_9 _ _ w => ?_)
  refine jw_if_eq (tgt := 214) (pc' := 155) rfl rfl (fun c_12 => ?_) (fun c_12 => ?_)
  · replace w := w.1 c_12
    exact w_X17_select_214 w
  · replace w := w.2 c_12
    refine jw_aload_n (pc' := 156) rfl rfl ?_
    refine jw_getR (pc' := 159) (F := 79) (t' := 15) rfl rfl rfl rfl rfl g_1 ?_
    refine jw_ldcwS (pc' := 162) rfl rfl rfl rfl ?_
    obtain ⟨g_13, w⟩ := w
    refine jw_cV (st := []) (sa := [vR 15 (jfr h_9 79 r0), vR 51 (jcs D 144)]) okX18_needWord rfl rfl rfl rfl rfl rfl (jstp_virtual (sa := [vR 51 (jcs D 144)]) (st := []) (k := 0) rfl rfl sX18_needWord okX18_needWord g_13 (one15.k g_13) rfl rfl) w (fun h_14 _ _ w => ?_)
    obtain ⟨n, w⟩ := w
    exact l_X17_select_165 n _ _ _ w
def W_X17_select_106 (D : JD) (d : Nat) (Q : JO → JH → Prop) (K60 : Nat → Nat → JH → Prop) (r0 : Nat) (r1 : Nat) (h : JH) : Prop :=
  r0 ≠ 0 ∧ ((jfr h 79 r0) ≠ 0 ∧ (cX18_takesWord D d (jfr h 79 r0) (jcs D 141) h (pI D h (fun v_5 h_3 => (jfr h_3 79 r0) ≠ 0 ∧ (cX18_needWord D d (jfr h_3 79 r0) (jcs D 142) h_3 (pV D h_3 (fun h_7 => cX17_source D d r0 r1 (1 : Int32) v_5 h_7 (pV D h_7 (fun h_10 => K60 r0 r1 h_10) (jth Q))) (jth Q)))) (jth Q))))
theorem w_X17_select_106 {D : JD} {d : Nat} {Q : JO → JH → Prop} {K60 : Nat → Nat → JH → Prop} {r0 : Nat} {r1 : Nat} {h : JH} (hK60 : ∀ (r0 : Nat) (r1 : Nat) (h : JH), K60 r0 r1 h → JW D (d + 1) mX17_select 60 [some (vR 14 r0), some (vR 33 r1), none] [] h Q) (w : W_X17_select_106 D d Q K60 r0 r1 h) : JW D (d + 1) mX17_select 106 [some (vR 14 r0), some (vR 33 r1), none] [] h Q := by
  unfold W_X17_select_106 at w
  refine jw_aload_n (pc' := 107) rfl rfl ?_
  obtain ⟨g_1, w⟩ := w
  refine jw_getR (pc' := 110) (F := 79) (t' := 15) rfl rfl rfl rfl rfl g_1 ?_
  refine jw_ldcS (pc' := 112) rfl rfl rfl rfl ?_
  obtain ⟨g_2, w⟩ := w
  refine jw_cI (st := []) (sa := [vR 15 (jfr h 79 r0), vR 51 (jcs D 141)]) okX18_takesWord rfl rfl rfl rfl rfl rfl (jstp_virtual (sa := [vR 51 (jcs D 141)]) (st := []) (k := 0) rfl rfl sX18_takesWord okX18_takesWord g_2 (one15.k g_2) rfl rfl) w (fun v_5 h_3 _ _ w => ?_)
  refine jw_istore_n (pc' := 116) (ls' := [some (vR 14 r0), some (vR 33 r1), some (vI v_5)]) rfl (by decide) rfl ?_
  refine jw_aload_n (pc' := 117) rfl rfl ?_
  refine jw_getR (pc' := 120) (F := 79) (t' := 15) rfl rfl rfl rfl rfl g_1 ?_
  refine jw_ldcS (pc' := 122) rfl rfl rfl rfl ?_
  obtain ⟨g_6, w⟩ := w
  refine jw_cV (st := []) (sa := [vR 15 (jfr h_3 79 r0), vR 51 (jcs D 142)]) okX18_needWord rfl rfl rfl rfl rfl rfl (jstp_virtual (sa := [vR 51 (jcs D 142)]) (st := []) (k := 0) rfl rfl sX18_needWord okX18_needWord g_6 (one15.k g_6) rfl rfl) w (fun h_7 _ _ w => ?_)
  refine jw_aload_n (pc' := 126) rfl rfl ?_
  refine jw_aload_n (pc' := 127) rfl rfl ?_
  refine jw_iconst (pc' := 128) (x := (1 : Int32)) rfl rfl ?_
  refine jw_iload_n (pc' := 129) rfl rfl ?_
  refine jw_cV (st := []) (sa := [vR 14 r0, vR 33 r1, vI (1 : Int32), vI v_5]) okX17_source rfl rfl rfl rfl rfl rfl (jstp_virtual (sa := [vR 33 r1, vI (1 : Int32), vI v_5]) (st := []) (k := 0) rfl rfl sX17_source okX17_source g_1 (one14.k g_1) rfl rfl) w (fun h_10 _ _ w => ?_)
  refine jw_goto (pc' := 60) rfl rfl ?_
  refine jw_gen (ls' := [some (vR 14 r0), some (vR 33 r1), none]) (st' := []) (And.intro (Or.inl rfl) (And.intro (Or.inl rfl) (trivial))) (trivial) ?_
  exact hK60 _ _ _ w
def W_X17_select_60 (D : JD) (d : Nat) (Q : JO → JH → Prop) (K60 : Nat → Nat → JH → Prop) (r0 : Nat) (r1 : Nat) (h : JH) : Prop :=
  r0 ≠ 0 ∧ ((jfr h 79 r0) ≠ 0 ∧ (cX18_takes D d (jfr h 79 r0) (jcs D 100) h (pI D h (fun v_5 h_3 => (v_5 = 0 → (jfr h_3 79 r0) ≠ 0 ∧ (cX18_isWord D d (jfr h_3 79 r0) (jcs D 141) h_3 (pI D h_3 (fun v_10 h_8 => (¬ v_10 = 0 → W_X17_select_106 D d Q K60 r0 r1 h_8) ∧ (v_10 = 0 → (jfr h_8 79 r0) ≠ 0 ∧ (cX18_isWord D d (jfr h_8 79 r0) (jcs D 142) h_8 (pI D h_8 (fun v_15 h_13 => (v_15 = 0 → W_X17_select_135 D d Q r0 r1 h_13) ∧ (¬ v_15 = 0 → W_X17_select_106 D d Q K60 r0 r1 h_13)) (jth Q))))) (jth Q)))) ∧ (¬ v_5 = 0 → cX17_source D d r0 r1 (0 : Int32) (0 : Int32) h_3 (pV D h_3 (fun h_17 => K60 r0 r1 h_17) (jth Q)))) (jth Q))))
theorem w_X17_select_60 {D : JD} {d : Nat} {Q : JO → JH → Prop} {K60 : Nat → Nat → JH → Prop} {r0 : Nat} {r1 : Nat} {h : JH} (hK60 : ∀ (r0 : Nat) (r1 : Nat) (h : JH), K60 r0 r1 h → JW D (d + 1) mX17_select 60 [some (vR 14 r0), some (vR 33 r1), none] [] h Q) (w : W_X17_select_60 D d Q K60 r0 r1 h) : JW D (d + 1) mX17_select 60 [some (vR 14 r0), some (vR 33 r1), none] [] h Q := by
  unfold W_X17_select_60 at w
  refine jw_aload_n (pc' := 61) rfl rfl ?_
  obtain ⟨g_1, w⟩ := w
  refine jw_getR (pc' := 64) (F := 79) (t' := 15) rfl rfl rfl rfl rfl g_1 ?_
  refine jw_ldcS (pc' := 66) rfl rfl rfl rfl ?_
  obtain ⟨g_2, w⟩ := w
  refine jw_cI (st := []) (sa := [vR 15 (jfr h 79 r0), vR 51 (jcs D 100)]) okX18_takes rfl rfl rfl rfl rfl rfl (jstp_virtual (sa := [vR 51 (jcs D 100)]) (st := []) (k := 0) rfl rfl sX18_takes okX18_takes g_2 (one15.k g_2) rfl rfl) w (fun v_5 h_3 _ _ w => ?_)
  refine jw_if_eq (tgt := 82) (pc' := 72) rfl rfl (fun c_6 => ?_) (fun c_6 => ?_)
  · replace w := w.1 c_6
    refine jw_aload_n (pc' := 83) rfl rfl ?_
    refine jw_getR (pc' := 86) (F := 79) (t' := 15) rfl rfl rfl rfl rfl g_1 ?_
    refine jw_ldcS (pc' := 88) rfl rfl rfl rfl ?_
    obtain ⟨g_7, w⟩ := w
    refine jw_cI (st := []) (sa := [vR 15 (jfr h_3 79 r0), vR 51 (jcs D 141)]) okX18_isWord rfl rfl rfl rfl rfl rfl (jstp_virtual (sa := [vR 51 (jcs D 141)]) (st := []) (k := 0) rfl rfl sX18_isWord okX18_isWord g_7 (one15.k g_7) rfl rfl) w (fun v_10 h_8 _ _ w => ?_)
    refine jw_if_ne (tgt := 106) (pc' := 94) rfl rfl (fun c_11 => ?_) (fun c_11 => ?_)
    · replace w := w.1 c_11
      exact w_X17_select_106 hK60 w
    · replace w := w.2 c_11
      refine jw_aload_n (pc' := 95) rfl rfl ?_
      refine jw_getR (pc' := 98) (F := 79) (t' := 15) rfl rfl rfl rfl rfl g_1 ?_
      refine jw_ldcS (pc' := 100) rfl rfl rfl rfl ?_
      obtain ⟨g_12, w⟩ := w
      refine jw_cI (st := []) (sa := [vR 15 (jfr h_8 79 r0), vR 51 (jcs D 142)]) okX18_isWord rfl rfl rfl rfl rfl rfl (jstp_virtual (sa := [vR 51 (jcs D 142)]) (st := []) (k := 0) rfl rfl sX18_isWord okX18_isWord g_12 (one15.k g_12) rfl rfl) w (fun v_15 h_13 _ _ w => ?_)
      refine jw_if_eq (tgt := 135) (pc' := 106) rfl rfl (fun c_16 => ?_) (fun c_16 => ?_)
      · replace w := w.1 c_16
        exact w_X17_select_135 w
      · replace w := w.2 c_16
        exact w_X17_select_106 hK60 w
  · replace w := w.2 c_6
    refine jw_aload_n (pc' := 73) rfl rfl ?_
    refine jw_aload_n (pc' := 74) rfl rfl ?_
    refine jw_iconst (pc' := 75) (x := (0 : Int32)) rfl rfl ?_
    refine jw_iconst (pc' := 76) (x := (0 : Int32)) rfl rfl ?_
    refine jw_cV (st := []) (sa := [vR 14 r0, vR 33 r1, vI (0 : Int32), vI (0 : Int32)]) okX17_source rfl rfl rfl rfl rfl rfl (jstp_virtual (sa := [vR 33 r1, vI (0 : Int32), vI (0 : Int32)]) (st := []) (k := 0) rfl rfl sX17_source okX17_source g_1 (one14.k g_1) rfl rfl) w (fun h_17 _ _ w => ?_)
    refine jw_goto (pc' := 60) rfl rfl ?_
    exact hK60 _ _ _ w
def L_X17_select_60 (D : JD) (d : Nat) (Q : JO → JH → Prop) : Nat → Nat → Nat → JH → Prop
  | 0 => fun _ _ _ => False
  | n + 1 => fun r0 r1 h => W_X17_select_60 D d Q (L_X17_select_60 D d Q n) r0 r1 h
theorem l_X17_select_60 {D : JD} {d : Nat} {Q : JO → JH → Prop} : ∀ (n : Nat) (r0 : Nat) (r1 : Nat) (h : JH), L_X17_select_60 D d Q n r0 r1 h → JW D (d + 1) mX17_select 60 [some (vR 14 r0), some (vR 33 r1), none] [] h Q := by
  intro n
  induction n with
  | zero => intro _ _ _ w; exact w.elim
  | succ n ih => intro _ _ h w; exact w_X17_select_60 ih w
def W_X17_select_24 (D : JD) (d : Nat) (Q : JO → JH → Prop) (K24 : Nat → Nat → JH → Prop) (r0 : Nat) (r1 : Nat) (h : JH) : Prop :=
  r0 ≠ 0 ∧ (cX17_item D d r0 r1 h (pV D h (fun h_2 => (jfr h_2 79 r0) ≠ 0 ∧ (cX18_takes D d (jfr h_2 79 r0) (jcs D 100) h_2 (pI D h_2 (fun v_8 h_6 => (¬ v_8 = 0 → K24 r0 r1 h_6) ∧ (v_8 = 0 → (jfr h_6 79 r0) ≠ 0 ∧ (cX18_takesWord D d (jfr h_6 79 r0) (jcs D 137) h_6 (pI D h_6 (fun v_13 h_11 => (v_13 = 0 → W_X17_select_135 D d Q r0 r1 h_11) ∧ (¬ v_13 = 0 → cX17_source D d r0 r1 (0 : Int32) (0 : Int32) h_11 (pV D h_11 (fun h_15 => ∃ n, L_X17_select_60 D d Q n r0 r1 h_15) (jth Q)))) (jth Q))))) (jth Q)))) (jth Q)))
theorem w_X17_select_24 {D : JD} {d : Nat} {Q : JO → JH → Prop} {K24 : Nat → Nat → JH → Prop} {r0 : Nat} {r1 : Nat} {h : JH} (hK24 : ∀ (r0 : Nat) (r1 : Nat) (h : JH), K24 r0 r1 h → JW D (d + 1) mX17_select 24 [some (vR 14 r0), some (vR 33 r1), none] [] h Q) (w : W_X17_select_24 D d Q K24 r0 r1 h) : JW D (d + 1) mX17_select 24 [some (vR 14 r0), some (vR 33 r1), none] [] h Q := by
  unfold W_X17_select_24 at w
  refine jw_aload_n (pc' := 25) rfl rfl ?_
  refine jw_aload_n (pc' := 26) rfl rfl ?_
  obtain ⟨g_1, w⟩ := w
  refine jw_cV (st := []) (sa := [vR 14 r0, vR 33 r1]) okX17_item rfl rfl rfl rfl rfl rfl (jstp_virtual (sa := [vR 33 r1]) (st := []) (k := 0) rfl rfl sX17_item okX17_item g_1 (one14.k g_1) rfl rfl) w (fun h_2 _ _ w => ?_)
  refine jw_aload_n (pc' := 30) rfl rfl ?_
  refine jw_getR (pc' := 33) (F := 79) (t' := 15) rfl rfl rfl rfl rfl g_1 ?_
  refine jw_ldcS (pc' := 35) rfl rfl rfl rfl ?_
  obtain ⟨g_5, w⟩ := w
  refine jw_cI (st := []) (sa := [vR 15 (jfr h_2 79 r0), vR 51 (jcs D 100)]) okX18_takes rfl rfl rfl rfl rfl rfl (jstp_virtual (sa := [vR 51 (jcs D 100)]) (st := []) (k := 0) rfl rfl sX18_takes okX18_takes g_5 (one15.k g_5) rfl rfl) w (fun v_8 h_6 _ _ w => ?_)
  refine jw_if_ne (tgt := 24) (pc' := 41) rfl rfl (fun c_9 => ?_) (fun c_9 => ?_)
  · replace w := w.1 c_9
    exact hK24 _ _ _ w
  · replace w := w.2 c_9
    refine jw_aload_n (pc' := 42) rfl rfl ?_
    refine jw_getR (pc' := 45) (F := 79) (t' := 15) rfl rfl rfl rfl rfl g_1 ?_
    refine jw_ldcS (pc' := 47) rfl rfl rfl rfl ?_
    obtain ⟨g_10, w⟩ := w
    refine jw_cI (st := []) (sa := [vR 15 (jfr h_6 79 r0), vR 51 (jcs D 137)]) okX18_takesWord rfl rfl rfl rfl rfl rfl (jstp_virtual (sa := [vR 51 (jcs D 137)]) (st := []) (k := 0) rfl rfl sX18_takesWord okX18_takesWord g_10 (one15.k g_10) rfl rfl) w (fun v_13 h_11 _ _ w => ?_)
    refine jw_if_eq (tgt := 135) (pc' := 53) rfl rfl (fun c_14 => ?_) (fun c_14 => ?_)
    · replace w := w.1 c_14
      exact w_X17_select_135 w
    · replace w := w.2 c_14
      refine jw_aload_n (pc' := 54) rfl rfl ?_
      refine jw_aload_n (pc' := 55) rfl rfl ?_
      refine jw_iconst (pc' := 56) (x := (0 : Int32)) rfl rfl ?_
      refine jw_iconst (pc' := 57) (x := (0 : Int32)) rfl rfl ?_
      refine jw_cV (st := []) (sa := [vR 14 r0, vR 33 r1, vI (0 : Int32), vI (0 : Int32)]) okX17_source rfl rfl rfl rfl rfl rfl (jstp_virtual (sa := [vR 33 r1, vI (0 : Int32), vI (0 : Int32)]) (st := []) (k := 0) rfl rfl sX17_source okX17_source g_1 (one14.k g_1) rfl rfl) w (fun h_15 _ _ w => ?_)
      obtain ⟨n, w⟩ := w
      exact l_X17_select_60 n _ _ _ w
def L_X17_select_24 (D : JD) (d : Nat) (Q : JO → JH → Prop) : Nat → Nat → Nat → JH → Prop
  | 0 => fun _ _ _ => False
  | n + 1 => fun r0 r1 h => W_X17_select_24 D d Q (L_X17_select_24 D d Q n) r0 r1 h
theorem l_X17_select_24 {D : JD} {d : Nat} {Q : JO → JH → Prop} : ∀ (n : Nat) (r0 : Nat) (r1 : Nat) (h : JH), L_X17_select_24 D d Q n r0 r1 h → JW D (d + 1) mX17_select 24 [some (vR 14 r0), some (vR 33 r1), none] [] h Q := by
  intro n
  induction n with
  | zero => intro _ _ _ w; exact w.elim
  | succ n ih => intro _ _ h w; exact w_X17_select_24 ih w
def W_X17_select_0 (D : JD) (d : Nat) (Q : JO → JH → Prop) (r0 : Nat) (h : JH) : Prop :=
  r0 ≠ 0 ∧ ((jfr h 79 r0) ≠ 0 ∧ (cX18_next D d (jfr h 79 r0) h (pV D h (fun h_3 => ∀ (r_6 : Nat) (h_7 : JH), r_6 = jsz h_3 + 1 → h_7 = nwo h_3 33 20 → ((jfr h_7 79 r0) ≠ 0 ∧ (cX18_takesWord D d (jfr h_7 79 r0) (jcs D 138) h_7 (pI D h_7 (fun v_13 h_11 => cX40_init D d r_6 v_13 h_11 (pV D h_11 (fun h_14 => ∃ n, L_X17_select_24 D d Q n r0 r_6 h_14) (jth Q))) (jth Q))))) (jth Q))))
theorem w_X17_select_0 {D : JD} {d : Nat} {Q : JO → JH → Prop} {r0 : Nat} {h : JH} (w : W_X17_select_0 D d Q r0 h) : JW D (d + 1) mX17_select 0 [some (vR 14 r0), none, none] [] h Q := by
  unfold W_X17_select_0 at w
  refine jw_aload_n (pc' := 1) rfl rfl ?_
  obtain ⟨g_1, w⟩ := w
  refine jw_getR (pc' := 4) (F := 79) (t' := 15) rfl rfl rfl rfl rfl g_1 ?_
  obtain ⟨g_2, w⟩ := w
  refine jw_cV (st := []) (sa := [vR 15 (jfr h 79 r0)]) okX18_next rfl rfl rfl rfl rfl rfl (jstp_virtual (sa := []) (st := []) (k := 0) rfl rfl sX18_next okX18_next g_2 (one15.k g_2) rfl rfl) w (fun h_3 _ _ w => ?_)
  refine jw_new' (pc' := 10) (k := 33) (n := 20) rfl rfl rfl rfl rfl rfl rfl (fun r_6 h_7 e_8 e_9 => ?_)
  replace w := w r_6 h_7 e_8 e_9
  refine jw_dup (pc' := 11) rfl rfl ?_
  refine jw_aload_n (pc' := 12) rfl rfl ?_
  refine jw_getR (pc' := 15) (F := 79) (t' := 15) rfl rfl rfl rfl rfl g_1 ?_
  refine jw_ldcS (pc' := 17) rfl rfl rfl rfl ?_
  obtain ⟨g_10, w⟩ := w
  refine jw_cI (st := [vR 33 r_6, vR 33 r_6]) (sa := [vR 15 (jfr h_7 79 r0), vR 51 (jcs D 138)]) okX18_takesWord rfl rfl rfl rfl rfl rfl (jstp_virtual (sa := [vR 51 (jcs D 138)]) (st := [vR 33 r_6, vR 33 r_6]) (k := 0) rfl rfl sX18_takesWord okX18_takesWord g_10 (one15.k g_10) rfl rfl) w (fun v_13 h_11 _ _ w => ?_)
  refine jw_cV (st := [vR 33 r_6]) (sa := [vR 33 r_6, vI v_13]) okX40_init rfl rfl rfl rfl rfl rfl (jstp_init (sa := [vI v_13]) (st := [vR 33 r_6]) rfl rfl sX40_init okX40_init (lw_g (jtb_mem (c := 9) (i := 64) rfl) rfl) (jnz e_8) rfl rfl) w (fun h_14 _ _ w => ?_)
  refine jw_astore_n (pc' := 24) (ls' := [some (vR 14 r0), some (vR 33 r_6), none]) rfl (by decide) rfl ?_
  obtain ⟨n, w⟩ := w
  exact l_X17_select_24 n _ _ _ w
def T_X17_select (D : JD) (d : Nat) (Q : JO → JH → Prop) (r0 : Nat) (h : JH) : Prop := W_X17_select_0 D d Q r0 h
theorem t_X17_select {D : JD} {d : Nat} {Q : JO → JH → Prop} {r0 : Nat} {h : JH} (w : T_X17_select D d Q r0 h) : cX17_select D (d + 1) r0 h Q := by
  unfold T_X17_select at w
  unfold cX17_select
  exact w_X17_select_0 w
def W_X17_item_102 (D : JD) (d : Nat) (Q : JO → JH → Prop) (h : JH) : Prop :=
  Q (.inl none) h
theorem w_X17_item_102 {D : JD} {d : Nat} {Q : JO → JH → Prop} {h : JH} (w : W_X17_item_102 D d Q h) : JW D (d + 1) mX17_item 102 [none, none, none] [] h Q := by
  unfold W_X17_item_102 at w
  exact jw_return rfl rfl w
def W_X17_item_0 (D : JD) (d : Nat) (Q : JO → JH → Prop) (r0 : Nat) (r1 : Nat) (h : JH) : Prop :=
  r1 ≠ 0 ∧ ((¬ (jfi h 143 r1) = (12 : Int32) → ∀ (r_3 : Nat) (h_4 : JH), r_3 = jsz h + 1 → h_4 = nwo h 34 4 → (cX41_init D d r_3 h_4 (pV D h_4 (fun h_7 => (jfr h_7 142 r1) ≠ 0 ∧ jin (jfi h_7 143 r1) (jln h_7 (jfr h_7 142 r1)) ∧ ∀ h_12 : JH, h_12 = war h_7 (jfr h_7 142 r1) (ixn (jfi h_7 143 r1)) r_3 → (∀ h_14 : JH, h_14 = wfi h_12 143 r1 ((jfi h_12 143 r1) + (1 : Int32)) → (r0 ≠ 0 ∧ ((jfr h_14 79 r0) ≠ 0 ∧ (cX18_takes D d (jfr h_14 79 r0) (jcs D 113) h_14 (pI D h_14 (fun v_20 h_18 => (v_20 = 0 → cX17_starred D d r0 r_3 h_18 (pR D h_18 55 (fun v_24 h_22 => ∀ h_25 : JH, h_25 = wfr h_22 163 r_3 v_24 → (((jfi h_25 161 r_3) = 0 → (jfr h_25 79 r0) ≠ 0 ∧ (cX18_takesWord D d (jfr h_25 79 r0) (jcs D 139) h_25 (pI D h_25 (fun v_31 h_29 => (v_31 = 0 → W_X17_item_102 D d Q h_29) ∧ (¬ v_31 = 0 → (jfr h_29 79 r0) ≠ 0 ∧ (cX18_name D d (jfr h_29 79 r0) h_29 (pR D h_29 64 (fun v_36 h_34 => ∀ h_37 : JH, h_37 = wfr h_34 164 r_3 v_36 → (W_X17_item_102 D d Q h_37)) (jth Q))))) (jth Q)))) ∧ (¬ (jfi h_25 161 r_3) = 0 → Q (.inl none) h_25))) (jth Q))) ∧ (¬ v_20 = 0 → ∀ h_39 : JH, h_39 = wfi h_18 161 r_3 (1 : Int32) → (Q (.inl none) h_39))) (jth Q))))))) (jth Q)))) ∧ ((jfi h 143 r1) = (12 : Int32) → r0 ≠ 0 ∧ (cX17_broken D d r0 h (pR D h 9 (fun v_44 h_42 => v_44 ≠ 0 ∧ (Q (.inr v_44) h_42)) (jth Q)))))
theorem w_X17_item_0 {D : JD} {d : Nat} {Q : JO → JH → Prop} {r0 : Nat} {r1 : Nat} {h : JH} (w : W_X17_item_0 D d Q r0 r1 h) : JW D (d + 1) mX17_item 0 [some (vR 14 r0), some (vR 33 r1), none] [] h Q := by
  unfold W_X17_item_0 at w
  refine jw_aload_n (pc' := 1) rfl rfl ?_
  obtain ⟨g_1, w⟩ := w
  refine jw_getI (pc' := 4) (F := 143) rfl rfl rfl rfl g_1 ?_
  refine jw_bipush (pc' := 6) (x := (12 : Int32)) rfl rfl ?_
  refine jw_icmp_ne (tgt := 14) (pc' := 9) rfl rfl (fun c_2 => ?_) (fun c_2 => ?_)
  · replace w := w.1 c_2
    refine jw_new' (pc' := 17) (k := 34) (n := 4) rfl rfl rfl rfl rfl rfl rfl (fun r_3 h_4 e_5 e_6 => ?_)
    replace w := w r_3 h_4 e_5 e_6
    refine jw_dup (pc' := 18) rfl rfl ?_
    refine jw_cV (st := [vR 34 r_3]) (sa := [vR 34 r_3]) okX41_init rfl rfl rfl rfl rfl rfl (jstp_init (sa := []) (st := [vR 34 r_3]) rfl rfl sX41_init okX41_init (lw_g (jtb_mem (c := 9) (i := 160) rfl) rfl) (jnz e_5) rfl rfl) w (fun h_7 _ _ w => ?_)
    refine jw_astore_n (pc' := 22) (ls' := [some (vR 14 r0), some (vR 33 r1), some (vR 34 r_3)]) rfl (by decide) rfl ?_
    refine jw_aload_n (pc' := 23) rfl rfl ?_
    refine jw_getR (pc' := 26) (F := 142) (t' := 152) rfl rfl rfl rfl rfl g_1 ?_
    refine jw_aload_n (pc' := 27) rfl rfl ?_
    refine jw_getI (pc' := 30) (F := 143) rfl rfl rfl rfl g_1 ?_
    refine jw_aload_n (pc' := 31) rfl rfl ?_
    obtain ⟨g_10, w⟩ := w
    obtain ⟨g_11, w⟩ := w
    refine jw_aast' (pc' := 32) rfl rfl rfl rfl rfl rfl g_10 g_11 (fun h_12 e_13 => ?_)
    replace w := w h_12 e_13
    refine jw_aload_n (pc' := 33) rfl rfl ?_
    refine jw_dup (pc' := 34) rfl rfl ?_
    refine jw_getI (pc' := 37) (F := 143) rfl rfl rfl rfl g_1 ?_
    refine jw_iconst (pc' := 38) (x := (1 : Int32)) rfl rfl ?_
    refine jw_iadd (pc' := 39) rfl ?_
    refine jw_putI' (pc' := 42) (F := 143) rfl rfl rfl (Or.inr rfl) (Or.inl rfl) rfl (rfl) (rfl) rfl g_1 (fun h_14 e_15 => ?_)
    replace w := w h_14 e_15
    refine jw_aload_n (pc' := 43) rfl rfl ?_
    obtain ⟨g_16, w⟩ := w
    refine jw_getR (pc' := 46) (F := 79) (t' := 15) rfl rfl rfl rfl rfl g_16 ?_
    refine jw_ldcwS (pc' := 49) rfl rfl rfl rfl ?_
    obtain ⟨g_17, w⟩ := w
    refine jw_cI (st := []) (sa := [vR 15 (jfr h_14 79 r0), vR 51 (jcs D 113)]) okX18_takes rfl rfl rfl rfl rfl rfl (jstp_virtual (sa := [vR 51 (jcs D 113)]) (st := []) (k := 0) rfl rfl sX18_takes okX18_takes g_17 (one15.k g_17) rfl rfl) w (fun v_20 h_18 _ _ w => ?_)
    refine jw_if_eq (tgt := 61) (pc' := 55) rfl rfl (fun c_21 => ?_) (fun c_21 => ?_)
    · replace w := w.1 c_21
      refine jw_aload_n (pc' := 62) rfl rfl ?_
      refine jw_aload_n (pc' := 63) rfl rfl ?_
      refine jw_aload_n (pc' := 64) rfl rfl ?_
      refine jw_cR (st := [vR 34 r_3]) (sa := [vR 14 r0, vR 34 r_3]) okX17_starred rfl rfl rfl rfl rfl rfl (jstp_virtual (sa := [vR 34 r_3]) (st := [vR 34 r_3]) (k := 0) rfl rfl sX17_starred okX17_starred g_16 (one14.k g_16) rfl rfl) w (fun v_24 h_22 _ _ _ w => ?_)
      refine jw_putR' (pc' := 70) (F := 163) rfl rfl rfl (Or.inr rfl) (Or.inl rfl) rfl rfl rfl (jnz e_5) (fun h_25 e_26 => ?_)
      replace w := w h_25 e_26
      refine jw_aload_n (pc' := 71) rfl rfl ?_
      refine jw_getI (pc' := 74) (F := 161) rfl rfl rfl rfl (jnz e_5) ?_
      refine jw_if_eq (tgt := 78) (pc' := 77) rfl rfl (fun c_27 => ?_) (fun c_27 => ?_)
      · replace w := w.1 c_27
        refine jw_aload_n (pc' := 79) rfl rfl ?_
        refine jw_getR (pc' := 82) (F := 79) (t' := 15) rfl rfl rfl rfl rfl g_16 ?_
        refine jw_ldcwS (pc' := 85) rfl rfl rfl rfl ?_
        obtain ⟨g_28, w⟩ := w
        refine jw_cI (st := []) (sa := [vR 15 (jfr h_25 79 r0), vR 51 (jcs D 139)]) okX18_takesWord rfl rfl rfl rfl rfl rfl (jstp_virtual (sa := [vR 51 (jcs D 139)]) (st := []) (k := 0) rfl rfl sX18_takesWord okX18_takesWord g_28 (one15.k g_28) rfl rfl) w (fun v_31 h_29 _ _ w => ?_)
        refine jw_if_eq (tgt := 102) (pc' := 91) rfl rfl (fun c_32 => ?_) (fun c_32 => ?_)
        · replace w := w.1 c_32
          refine jw_gen (ls' := [none, none, none]) (st' := []) (trivial) (trivial) ?_
          exact w_X17_item_102 w
        · replace w := w.2 c_32
          refine jw_aload_n (pc' := 92) rfl rfl ?_
          refine jw_aload_n (pc' := 93) rfl rfl ?_
          refine jw_getR (pc' := 96) (F := 79) (t' := 15) rfl rfl rfl rfl rfl g_16 ?_
          obtain ⟨g_33, w⟩ := w
          refine jw_cR (st := [vR 34 r_3]) (sa := [vR 15 (jfr h_29 79 r0)]) okX18_name rfl rfl rfl rfl rfl rfl (jstp_virtual (sa := []) (st := [vR 34 r_3]) (k := 0) rfl rfl sX18_name okX18_name g_33 (one15.k g_33) rfl rfl) w (fun v_36 h_34 _ _ _ w => ?_)
          refine jw_putR' (pc' := 102) (F := 164) rfl rfl rfl (Or.inr rfl) (Or.inl rfl) rfl rfl rfl (jnz e_5) (fun h_37 e_38 => ?_)
          replace w := w h_37 e_38
          refine jw_gen (ls' := [none, none, none]) (st' := []) (trivial) (trivial) ?_
          exact w_X17_item_102 w
      · replace w := w.2 c_27
        exact jw_return rfl rfl w
    · replace w := w.2 c_21
      refine jw_aload_n (pc' := 56) rfl rfl ?_
      refine jw_iconst (pc' := 57) (x := (1 : Int32)) rfl rfl ?_
      refine jw_putI' (pc' := 60) (F := 161) rfl rfl rfl (Or.inr rfl) (Or.inl rfl) rfl (rfl) (rfl) rfl (jnz e_5) (fun h_39 e_40 => ?_)
      replace w := w h_39 e_40
      exact jw_return rfl rfl w
  · replace w := w.2 c_2
    refine jw_aload_n (pc' := 10) rfl rfl ?_
    obtain ⟨g_41, w⟩ := w
    refine jw_cR (st := []) (sa := [vR 14 r0]) okX17_broken rfl rfl rfl rfl rfl rfl (jstp_virtual (sa := []) (st := []) (k := 0) rfl rfl sX17_broken okX17_broken g_41 (one14.k g_41) rfl rfl) w (fun v_44 h_42 _ _ _ w => ?_)
    obtain ⟨g_45, w⟩ := w
    exact jw_athrow rfl rfl g_45 w
def T_X17_item (D : JD) (d : Nat) (Q : JO → JH → Prop) (r0 : Nat) (r1 : Nat) (h : JH) : Prop := W_X17_item_0 D d Q r0 r1 h
theorem t_X17_item {D : JD} {d : Nat} {Q : JO → JH → Prop} {r0 : Nat} {r1 : Nat} {h : JH} (w : T_X17_item D d Q r0 r1 h) : cX17_item D (d + 1) r0 r1 h Q := by
  unfold T_X17_item at w
  unfold cX17_item
  exact w_X17_item_0 w
def W_X17_starred_76 (D : JD) (d : Nat) (Q : JO → JH → Prop) (r0 : Nat) (x2 : Int32) (h : JH) : Prop :=
  r0 ≠ 0 ∧ ((jfr h 79 r0) ≠ 0 ∧ ∀ h_3 : JH, h_3 = wfi h 85 (jfr h 79 r0) x2 → ((jfr h_3 79 r0) ≠ 0 ∧ (cX18_next D d (jfr h_3 79 r0) h_3 (pV D h_3 (fun h_6 => cX17_expression D d r0 h_6 (pR D h_6 55 (fun v_11 h_9 => Q (.inl (some (vR 55 v_11))) h_9) (jth Q))) (jth Q)))))
theorem w_X17_starred_76 {D : JD} {d : Nat} {Q : JO → JH → Prop} {r0 : Nat} {x2 : Int32} {h : JH} (w : W_X17_starred_76 D d Q r0 x2 h) : JW D (d + 1) mX17_starred 76 [some (vR 14 r0), none, some (vI x2), none] [] h Q := by
  unfold W_X17_starred_76 at w
  refine jw_aload_n (pc' := 77) rfl rfl ?_
  obtain ⟨g_1, w⟩ := w
  refine jw_getR (pc' := 80) (F := 79) (t' := 15) rfl rfl rfl rfl rfl g_1 ?_
  refine jw_iload_n (pc' := 81) rfl rfl ?_
  obtain ⟨g_2, w⟩ := w
  refine jw_putI' (pc' := 84) (F := 85) rfl rfl rfl (Or.inr rfl) (Or.inl rfl) rfl (rfl) (rfl) rfl g_2 (fun h_3 e_4 => ?_)
  replace w := w h_3 e_4
  refine jw_aload_n (pc' := 85) rfl rfl ?_
  refine jw_getR (pc' := 88) (F := 79) (t' := 15) rfl rfl rfl rfl rfl g_1 ?_
  obtain ⟨g_5, w⟩ := w
  refine jw_cV (st := []) (sa := [vR 15 (jfr h_3 79 r0)]) okX18_next rfl rfl rfl rfl rfl rfl (jstp_virtual (sa := []) (st := []) (k := 0) rfl rfl sX18_next okX18_next g_5 (one15.k g_5) rfl rfl) w (fun h_6 _ _ w => ?_)
  refine jw_aload_n (pc' := 92) rfl rfl ?_
  refine jw_cR (st := []) (sa := [vR 14 r0]) okX17_expression rfl rfl rfl rfl rfl rfl (jstp_virtual (sa := []) (st := []) (k := 0) rfl rfl sX17_expression okX17_expression g_1 (one14.k g_1) rfl rfl) w (fun v_11 h_9 _ _ _ w => ?_)
  exact jw_areturn rfl rfl rfl rfl rfl w
def W_X17_starred_0 (D : JD) (d : Nat) (Q : JO → JH → Prop) (r0 : Nat) (r1 : Nat) (h : JH) : Prop :=
  r0 ≠ 0 ∧ ((jfr h 79 r0) ≠ 0 ∧ (cX18_isName D d (jfr h 79 r0) h (pI D h (fun v_5 h_3 => (¬ v_5 = 0 → (jfr h_3 79 r0) ≠ 0 ∧ (cX18_next D d (jfr h_3 79 r0) h_3 (pV D h_3 (fun h_8 => (jfr h_8 79 r0) ≠ 0 ∧ (cX18_takes D d (jfr h_8 79 r0) (jcs D 118) h_8 (pI D h_8 (fun v_14 h_12 => (v_14 = 0 → W_X17_starred_76 D d Q r0 (jfi h_3 87 (jfr h_3 79 r0)) h_12) ∧ (¬ v_14 = 0 → (jfr h_12 79 r0) ≠ 0 ∧ (cX18_takes D d (jfr h_12 79 r0) (jcs D 113) h_12 (pI D h_12 (fun v_19 h_17 => (v_19 = 0 → W_X17_starred_76 D d Q r0 (jfi h_3 87 (jfr h_3 79 r0)) h_17) ∧ (¬ v_19 = 0 → r1 ≠ 0 ∧ ∀ h_22 : JH, h_22 = wfi h_17 161 r1 (1 : Int32) → (∀ h_24 : JH, h_24 = wfr h_22 162 r1 (jfr h_3 88 (jfr h_3 79 r0)) → (Q (.inl (some (vR 55 0))) h_24)))) (jth Q))))) (jth Q)))) (jth Q)))) ∧ (v_5 = 0 → cX17_expression D d r0 h_3 (pR D h_3 55 (fun v_28 h_26 => Q (.inl (some (vR 55 v_28))) h_26) (jth Q)))) (jth Q))))
theorem w_X17_starred_0 {D : JD} {d : Nat} {Q : JO → JH → Prop} {r0 : Nat} {r1 : Nat} {h : JH} (w : W_X17_starred_0 D d Q r0 r1 h) : JW D (d + 1) mX17_starred 0 [some (vR 14 r0), some (vR 34 r1), none, none] [] h Q := by
  unfold W_X17_starred_0 at w
  refine jw_aload_n (pc' := 1) rfl rfl ?_
  obtain ⟨g_1, w⟩ := w
  refine jw_getR (pc' := 4) (F := 79) (t' := 15) rfl rfl rfl rfl rfl g_1 ?_
  obtain ⟨g_2, w⟩ := w
  refine jw_cI (st := []) (sa := [vR 15 (jfr h 79 r0)]) okX18_isName rfl rfl rfl rfl rfl rfl (jstp_virtual (sa := []) (st := []) (k := 0) rfl rfl sX18_isName okX18_isName g_2 (one15.k g_2) rfl rfl) w (fun v_5 h_3 _ _ w => ?_)
  refine jw_if_ne (tgt := 15) (pc' := 10) rfl rfl (fun c_6 => ?_) (fun c_6 => ?_)
  · replace w := w.1 c_6
    refine jw_aload_n (pc' := 16) rfl rfl ?_
    refine jw_getR (pc' := 19) (F := 79) (t' := 15) rfl rfl rfl rfl rfl g_1 ?_
    obtain ⟨g_7, w⟩ := w
    refine jw_getI (pc' := 22) (F := 87) rfl rfl rfl rfl g_7 ?_
    refine jw_istore_n (pc' := 23) (ls' := [some (vR 14 r0), some (vR 34 r1), some (vI (jfi h_3 87 (jfr h_3 79 r0))), none]) rfl (by decide) rfl ?_
    refine jw_aload_n (pc' := 24) rfl rfl ?_
    refine jw_getR (pc' := 27) (F := 79) (t' := 15) rfl rfl rfl rfl rfl g_1 ?_
    refine jw_getR (pc' := 30) (F := 88) (t' := 64) rfl rfl rfl rfl rfl g_7 ?_
    refine jw_astore_n (pc' := 31) (ls' := [some (vR 14 r0), some (vR 34 r1), some (vI (jfi h_3 87 (jfr h_3 79 r0))), some (vR 64 (jfr h_3 88 (jfr h_3 79 r0)))]) rfl (by decide) rfl ?_
    refine jw_aload_n (pc' := 32) rfl rfl ?_
    refine jw_getR (pc' := 35) (F := 79) (t' := 15) rfl rfl rfl rfl rfl g_1 ?_
    refine jw_cV (st := []) (sa := [vR 15 (jfr h_3 79 r0)]) okX18_next rfl rfl rfl rfl rfl rfl (jstp_virtual (sa := []) (st := []) (k := 0) rfl rfl sX18_next okX18_next g_7 (one15.k g_7) rfl rfl) w (fun h_8 _ _ w => ?_)
    refine jw_aload_n (pc' := 39) rfl rfl ?_
    refine jw_getR (pc' := 42) (F := 79) (t' := 15) rfl rfl rfl rfl rfl g_1 ?_
    refine jw_ldcwS (pc' := 45) rfl rfl rfl rfl ?_
    obtain ⟨g_11, w⟩ := w
    refine jw_cI (st := []) (sa := [vR 15 (jfr h_8 79 r0), vR 51 (jcs D 118)]) okX18_takes rfl rfl rfl rfl rfl rfl (jstp_virtual (sa := [vR 51 (jcs D 118)]) (st := []) (k := 0) rfl rfl sX18_takes okX18_takes g_11 (one15.k g_11) rfl rfl) w (fun v_14 h_12 _ _ w => ?_)
    refine jw_if_eq (tgt := 76) (pc' := 51) rfl rfl (fun c_15 => ?_) (fun c_15 => ?_)
    · replace w := w.1 c_15
      refine jw_gen (ls' := [some (vR 14 r0), none, some (vI (jfi h_3 87 (jfr h_3 79 r0))), none]) (st' := []) (And.intro (Or.inl rfl) (And.intro (Or.inl rfl) (trivial))) (trivial) ?_
      exact w_X17_starred_76 w
    · replace w := w.2 c_15
      refine jw_aload_n (pc' := 52) rfl rfl ?_
      refine jw_getR (pc' := 55) (F := 79) (t' := 15) rfl rfl rfl rfl rfl g_1 ?_
      refine jw_ldcwS (pc' := 58) rfl rfl rfl rfl ?_
      obtain ⟨g_16, w⟩ := w
      refine jw_cI (st := []) (sa := [vR 15 (jfr h_12 79 r0), vR 51 (jcs D 113)]) okX18_takes rfl rfl rfl rfl rfl rfl (jstp_virtual (sa := [vR 51 (jcs D 113)]) (st := []) (k := 0) rfl rfl sX18_takes okX18_takes g_16 (one15.k g_16) rfl rfl) w (fun v_19 h_17 _ _ w => ?_)
      refine jw_if_eq (tgt := 76) (pc' := 64) rfl rfl (fun c_20 => ?_) (fun c_20 => ?_)
      · replace w := w.1 c_20
        refine jw_gen (ls' := [some (vR 14 r0), none, some (vI (jfi h_3 87 (jfr h_3 79 r0))), none]) (st' := []) (And.intro (Or.inl rfl) (And.intro (Or.inl rfl) (trivial))) (trivial) ?_
        exact w_X17_starred_76 w
      · replace w := w.2 c_20
        refine jw_aload_n (pc' := 65) rfl rfl ?_
        refine jw_iconst (pc' := 66) (x := (1 : Int32)) rfl rfl ?_
        obtain ⟨g_21, w⟩ := w
        refine jw_putI' (pc' := 69) (F := 161) rfl rfl rfl (Or.inr rfl) (Or.inl rfl) rfl (rfl) (rfl) rfl g_21 (fun h_22 e_23 => ?_)
        replace w := w h_22 e_23
        refine jw_aload_n (pc' := 70) rfl rfl ?_
        refine jw_aload_n (pc' := 71) rfl rfl ?_
        refine jw_putR' (pc' := 74) (F := 162) rfl rfl rfl (Or.inr rfl) (Or.inl rfl) rfl rfl rfl g_21 (fun h_24 e_25 => ?_)
        replace w := w h_24 e_25
        refine jw_null (pc' := 75) (t := 55) rfl ?_
        exact jw_areturn rfl rfl rfl rfl rfl w
  · replace w := w.2 c_6
    refine jw_aload_n (pc' := 11) rfl rfl ?_
    refine jw_cR (st := []) (sa := [vR 14 r0]) okX17_expression rfl rfl rfl rfl rfl rfl (jstp_virtual (sa := []) (st := []) (k := 0) rfl rfl sX17_expression okX17_expression g_1 (one14.k g_1) rfl rfl) w (fun v_28 h_26 _ _ _ w => ?_)
    exact jw_areturn rfl rfl rfl rfl rfl w
def T_X17_starred (D : JD) (d : Nat) (Q : JO → JH → Prop) (r0 : Nat) (r1 : Nat) (h : JH) : Prop := W_X17_starred_0 D d Q r0 r1 h
theorem t_X17_starred {D : JD} {d : Nat} {Q : JO → JH → Prop} {r0 : Nat} {r1 : Nat} {h : JH} (w : T_X17_starred D d Q r0 r1 h) : cX17_starred D (d + 1) r0 r1 h Q := by
  unfold T_X17_starred at w
  unfold cX17_starred
  exact w_X17_starred_0 w
def W_X17_source_100 (D : JD) (d : Nat) (Q : JO → JH → Prop) (r0 : Nat) (r1 : Nat) (x2 : Int32) (r4 : Nat) (h : JH) : Prop :=
  r1 ≠ 0 ∧ ((jfr h 144 r1) ≠ 0 ∧ jin (jfi h 145 r1) (jln h (jfr h 144 r1)) ∧ ∀ h_4 : JH, h_4 = war h (jfr h 144 r1) (ixn (jfi h 145 r1)) r4 → (∀ h_6 : JH, h_6 = wfi h_4 145 r1 ((jfi h_4 145 r1) + (1 : Int32)) → ((¬ x2 = 0 → r0 ≠ 0 ∧ ((jfr h_6 79 r0) ≠ 0 ∧ (cX18_needWord D d (jfr h_6 79 r0) (jcs D 140) h_6 (pV D h_6 (fun h_11 => cX17_expression D d r0 h_11 (pR D h_11 55 (fun v_16 h_14 => r4 ≠ 0 ∧ ∀ h_18 : JH, h_18 = wfr h_14 140 r4 v_16 → (Q (.inl none) h_18)) (jth Q))) (jth Q))))) ∧ (x2 = 0 → Q (.inl none) h_6))))
theorem w_X17_source_100 {D : JD} {d : Nat} {Q : JO → JH → Prop} {r0 : Nat} {r1 : Nat} {x2 : Int32} {r4 : Nat} {h : JH} (w : W_X17_source_100 D d Q r0 r1 x2 r4 h) : JW D (d + 1) mX17_source 100 [some (vR 14 r0), some (vR 33 r1), some (vI x2), none, some (vR 31 r4)] [] h Q := by
  unfold W_X17_source_100 at w
  refine jw_aload_n (pc' := 101) rfl rfl ?_
  obtain ⟨g_1, w⟩ := w
  refine jw_getR (pc' := 104) (F := 144) (t' := 153) rfl rfl rfl rfl rfl g_1 ?_
  refine jw_aload_n (pc' := 105) rfl rfl ?_
  refine jw_getI (pc' := 108) (F := 145) rfl rfl rfl rfl g_1 ?_
  refine jw_aload (pc' := 110) rfl rfl ?_
  obtain ⟨g_2, w⟩ := w
  obtain ⟨g_3, w⟩ := w
  refine jw_aast' (pc' := 111) rfl rfl rfl rfl rfl rfl g_2 g_3 (fun h_4 e_5 => ?_)
  replace w := w h_4 e_5
  refine jw_aload_n (pc' := 112) rfl rfl ?_
  refine jw_dup (pc' := 113) rfl rfl ?_
  refine jw_getI (pc' := 116) (F := 145) rfl rfl rfl rfl g_1 ?_
  refine jw_iconst (pc' := 117) (x := (1 : Int32)) rfl rfl ?_
  refine jw_iadd (pc' := 118) rfl ?_
  refine jw_putI' (pc' := 121) (F := 145) rfl rfl rfl (Or.inr rfl) (Or.inl rfl) rfl (rfl) (rfl) rfl g_1 (fun h_6 e_7 => ?_)
  replace w := w h_6 e_7
  refine jw_iload_n (pc' := 122) rfl rfl ?_
  refine jw_if_ne (tgt := 126) (pc' := 125) rfl rfl (fun c_8 => ?_) (fun c_8 => ?_)
  · replace w := w.1 c_8
    refine jw_aload_n (pc' := 127) rfl rfl ?_
    obtain ⟨g_9, w⟩ := w
    refine jw_getR (pc' := 130) (F := 79) (t' := 15) rfl rfl rfl rfl rfl g_9 ?_
    refine jw_ldcwS (pc' := 133) rfl rfl rfl rfl ?_
    obtain ⟨g_10, w⟩ := w
    refine jw_cV (st := []) (sa := [vR 15 (jfr h_6 79 r0), vR 51 (jcs D 140)]) okX18_needWord rfl rfl rfl rfl rfl rfl (jstp_virtual (sa := [vR 51 (jcs D 140)]) (st := []) (k := 0) rfl rfl sX18_needWord okX18_needWord g_10 (one15.k g_10) rfl rfl) w (fun h_11 _ _ w => ?_)
    refine jw_aload (pc' := 138) rfl rfl ?_
    refine jw_aload_n (pc' := 139) rfl rfl ?_
    refine jw_cR (st := [vR 31 r4]) (sa := [vR 14 r0]) okX17_expression rfl rfl rfl rfl rfl rfl (jstp_virtual (sa := []) (st := [vR 31 r4]) (k := 0) rfl rfl sX17_expression okX17_expression g_9 (one14.k g_9) rfl rfl) w (fun v_16 h_14 _ _ _ w => ?_)
    obtain ⟨g_17, w⟩ := w
    refine jw_putR' (pc' := 145) (F := 140) rfl rfl rfl (Or.inr rfl) (Or.inl rfl) rfl rfl rfl g_17 (fun h_18 e_19 => ?_)
    replace w := w h_18 e_19
    exact jw_return rfl rfl w
  · replace w := w.2 c_8
    exact jw_return rfl rfl w
def W_X17_source_0 (D : JD) (d : Nat) (Q : JO → JH → Prop) (r0 : Nat) (r1 : Nat) (x2 : Int32) (x3 : Int32) (h : JH) : Prop :=
  r1 ≠ 0 ∧ ((¬ (jfi h 145 r1) = (3 : Int32) → ∀ (r_3 : Nat) (h_4 : JH), r_3 = jsz h + 1 → h_4 = nwo h 31 5 → (cX38_init D d r_3 h_4 (pV D h_4 (fun h_7 => r0 ≠ 0 ∧ ((jfr h_7 79 r0) ≠ 0 ∧ (cX18_name D d (jfr h_7 79 r0) h_7 (pR D h_7 64 (fun v_14 h_12 => ∀ h_15 : JH, h_15 = wfr h_12 137 r_3 v_14 → (∀ h_17 : JH, h_17 = wfr h_15 136 r_3 (jfr h_15 137 r_3) → (jbo x3 ∧ ∀ h_20 : JH, h_20 = wfi h_17 139 r_3 x3 → ((jfr h_20 79 r0) ≠ 0 ∧ (cX18_takesWord D d (jfr h_20 79 r0) (jcs D 139) h_20 (pI D h_20 (fun v_25 h_23 => (v_25 = 0 → (jfr h_23 79 r0) ≠ 0 ∧ (cX18_isName D d (jfr h_23 79 r0) h_23 (pI D h_23 (fun v_30 h_28 => (v_30 = 0 → W_X17_source_100 D d Q r0 r1 x2 r_3 h_28) ∧ (¬ v_30 = 0 → (jfr h_28 79 r0) ≠ 0 ∧ (cX18_name D d (jfr h_28 79 r0) h_28 (pR D h_28 64 (fun v_35 h_33 => ∀ h_36 : JH, h_36 = wfr h_33 136 r_3 v_35 → (W_X17_source_100 D d Q r0 r1 x2 r_3 h_36)) (jth Q))))) (jth Q)))) ∧ (¬ v_25 = 0 → (jfr h_23 79 r0) ≠ 0 ∧ (cX18_name D d (jfr h_23 79 r0) h_23 (pR D h_23 64 (fun v_41 h_39 => ∀ h_42 : JH, h_42 = wfr h_39 136 r_3 v_41 → (W_X17_source_100 D d Q r0 r1 x2 r_3 h_42)) (jth Q))))) (jth Q))))))) (jth Q))))) (jth Q)))) ∧ ((jfi h 145 r1) = (3 : Int32) → r0 ≠ 0 ∧ (cX17_broken D d r0 h (pR D h 9 (fun v_47 h_45 => v_47 ≠ 0 ∧ (Q (.inr v_47) h_45)) (jth Q)))))
theorem w_X17_source_0 {D : JD} {d : Nat} {Q : JO → JH → Prop} {r0 : Nat} {r1 : Nat} {x2 : Int32} {x3 : Int32} {h : JH} (w : W_X17_source_0 D d Q r0 r1 x2 x3 h) : JW D (d + 1) mX17_source 0 [some (vR 14 r0), some (vR 33 r1), some (vI x2), some (vI x3), none] [] h Q := by
  unfold W_X17_source_0 at w
  refine jw_aload_n (pc' := 1) rfl rfl ?_
  obtain ⟨g_1, w⟩ := w
  refine jw_getI (pc' := 4) (F := 145) rfl rfl rfl rfl g_1 ?_
  refine jw_iconst (pc' := 5) (x := (3 : Int32)) rfl rfl ?_
  refine jw_icmp_ne (tgt := 13) (pc' := 8) rfl rfl (fun c_2 => ?_) (fun c_2 => ?_)
  · replace w := w.1 c_2
    refine jw_new' (pc' := 16) (k := 31) (n := 5) rfl rfl rfl rfl rfl rfl rfl (fun r_3 h_4 e_5 e_6 => ?_)
    replace w := w r_3 h_4 e_5 e_6
    refine jw_dup (pc' := 17) rfl rfl ?_
    refine jw_cV (st := [vR 31 r_3]) (sa := [vR 31 r_3]) okX38_init rfl rfl rfl rfl rfl rfl (jstp_init (sa := []) (st := [vR 31 r_3]) rfl rfl sX38_init okX38_init (lw_g (jtb_mem (c := 8) (i := 205) rfl) rfl) (jnz e_5) rfl rfl) w (fun h_7 _ _ w => ?_)
    refine jw_astore (pc' := 22) (ls' := [some (vR 14 r0), some (vR 33 r1), some (vI x2), some (vI x3), some (vR 31 r_3)]) rfl (by decide) rfl ?_
    refine jw_aload (pc' := 24) rfl rfl ?_
    refine jw_aload_n (pc' := 25) rfl rfl ?_
    obtain ⟨g_10, w⟩ := w
    refine jw_getR (pc' := 28) (F := 79) (t' := 15) rfl rfl rfl rfl rfl g_10 ?_
    obtain ⟨g_11, w⟩ := w
    refine jw_cR (st := [vR 31 r_3]) (sa := [vR 15 (jfr h_7 79 r0)]) okX18_name rfl rfl rfl rfl rfl rfl (jstp_virtual (sa := []) (st := [vR 31 r_3]) (k := 0) rfl rfl sX18_name okX18_name g_11 (one15.k g_11) rfl rfl) w (fun v_14 h_12 _ _ _ w => ?_)
    refine jw_putR' (pc' := 34) (F := 137) rfl rfl rfl (Or.inr rfl) (Or.inl rfl) rfl rfl rfl (jnz e_5) (fun h_15 e_16 => ?_)
    replace w := w h_15 e_16
    refine jw_aload (pc' := 36) rfl rfl ?_
    refine jw_aload (pc' := 38) rfl rfl ?_
    refine jw_getR (pc' := 41) (F := 137) (t' := 64) rfl rfl rfl rfl rfl (jnz e_5) ?_
    refine jw_putR' (pc' := 44) (F := 136) rfl rfl rfl (Or.inr rfl) (Or.inl rfl) rfl rfl rfl (jnz e_5) (fun h_17 e_18 => ?_)
    replace w := w h_17 e_18
    refine jw_aload (pc' := 46) rfl rfl ?_
    refine jw_iload_n (pc' := 47) rfl rfl ?_
    obtain ⟨g_19, w⟩ := w
    refine jw_putI' (pc' := 50) (F := 139) rfl rfl rfl (Or.inr rfl) (Or.inl rfl) rfl (g_19.nr) (g_19.ft) rfl (jnz e_5) (fun h_20 e_21 => ?_)
    replace w := w h_20 e_21
    refine jw_aload_n (pc' := 51) rfl rfl ?_
    refine jw_getR (pc' := 54) (F := 79) (t' := 15) rfl rfl rfl rfl rfl g_10 ?_
    refine jw_ldcwS (pc' := 57) rfl rfl rfl rfl ?_
    obtain ⟨g_22, w⟩ := w
    refine jw_cI (st := []) (sa := [vR 15 (jfr h_20 79 r0), vR 51 (jcs D 139)]) okX18_takesWord rfl rfl rfl rfl rfl rfl (jstp_virtual (sa := [vR 51 (jcs D 139)]) (st := []) (k := 0) rfl rfl sX18_takesWord okX18_takesWord g_22 (one15.k g_22) rfl rfl) w (fun v_25 h_23 _ _ w => ?_)
    refine jw_if_eq (tgt := 78) (pc' := 63) rfl rfl (fun c_26 => ?_) (fun c_26 => ?_)
    · replace w := w.1 c_26
      refine jw_aload_n (pc' := 79) rfl rfl ?_
      refine jw_getR (pc' := 82) (F := 79) (t' := 15) rfl rfl rfl rfl rfl g_10 ?_
      obtain ⟨g_27, w⟩ := w
      refine jw_cI (st := []) (sa := [vR 15 (jfr h_23 79 r0)]) okX18_isName rfl rfl rfl rfl rfl rfl (jstp_virtual (sa := []) (st := []) (k := 0) rfl rfl sX18_isName okX18_isName g_27 (one15.k g_27) rfl rfl) w (fun v_30 h_28 _ _ w => ?_)
      refine jw_if_eq (tgt := 100) (pc' := 88) rfl rfl (fun c_31 => ?_) (fun c_31 => ?_)
      · replace w := w.1 c_31
        refine jw_gen (ls' := [some (vR 14 r0), some (vR 33 r1), some (vI x2), none, some (vR 31 r_3)]) (st' := []) (And.intro (Or.inl rfl) (And.intro (Or.inl rfl) (And.intro (Or.inl rfl) (And.intro (Or.inl rfl) (trivial))))) (trivial) ?_
        exact w_X17_source_100 w
      · replace w := w.2 c_31
        refine jw_aload (pc' := 90) rfl rfl ?_
        refine jw_aload_n (pc' := 91) rfl rfl ?_
        refine jw_getR (pc' := 94) (F := 79) (t' := 15) rfl rfl rfl rfl rfl g_10 ?_
        obtain ⟨g_32, w⟩ := w
        refine jw_cR (st := [vR 31 r_3]) (sa := [vR 15 (jfr h_28 79 r0)]) okX18_name rfl rfl rfl rfl rfl rfl (jstp_virtual (sa := []) (st := [vR 31 r_3]) (k := 0) rfl rfl sX18_name okX18_name g_32 (one15.k g_32) rfl rfl) w (fun v_35 h_33 _ _ _ w => ?_)
        refine jw_putR' (pc' := 100) (F := 136) rfl rfl rfl (Or.inr rfl) (Or.inl rfl) rfl rfl rfl (jnz e_5) (fun h_36 e_37 => ?_)
        replace w := w h_36 e_37
        refine jw_gen (ls' := [some (vR 14 r0), some (vR 33 r1), some (vI x2), none, some (vR 31 r_3)]) (st' := []) (And.intro (Or.inl rfl) (And.intro (Or.inl rfl) (And.intro (Or.inl rfl) (And.intro (Or.inl rfl) (trivial))))) (trivial) ?_
        exact w_X17_source_100 w
    · replace w := w.2 c_26
      refine jw_aload (pc' := 65) rfl rfl ?_
      refine jw_aload_n (pc' := 66) rfl rfl ?_
      refine jw_getR (pc' := 69) (F := 79) (t' := 15) rfl rfl rfl rfl rfl g_10 ?_
      obtain ⟨g_38, w⟩ := w
      refine jw_cR (st := [vR 31 r_3]) (sa := [vR 15 (jfr h_23 79 r0)]) okX18_name rfl rfl rfl rfl rfl rfl (jstp_virtual (sa := []) (st := [vR 31 r_3]) (k := 0) rfl rfl sX18_name okX18_name g_38 (one15.k g_38) rfl rfl) w (fun v_41 h_39 _ _ _ w => ?_)
      refine jw_putR' (pc' := 75) (F := 136) rfl rfl rfl (Or.inr rfl) (Or.inl rfl) rfl rfl rfl (jnz e_5) (fun h_42 e_43 => ?_)
      replace w := w h_42 e_43
      refine jw_goto (pc' := 100) rfl rfl ?_
      refine jw_gen (ls' := [some (vR 14 r0), some (vR 33 r1), some (vI x2), none, some (vR 31 r_3)]) (st' := []) (And.intro (Or.inl rfl) (And.intro (Or.inl rfl) (And.intro (Or.inl rfl) (And.intro (Or.inl rfl) (trivial))))) (trivial) ?_
      exact w_X17_source_100 w
  · replace w := w.2 c_2
    refine jw_aload_n (pc' := 9) rfl rfl ?_
    obtain ⟨g_44, w⟩ := w
    refine jw_cR (st := []) (sa := [vR 14 r0]) okX17_broken rfl rfl rfl rfl rfl rfl (jstp_virtual (sa := []) (st := []) (k := 0) rfl rfl sX17_broken okX17_broken g_44 (one14.k g_44) rfl rfl) w (fun v_47 h_45 _ _ _ w => ?_)
    obtain ⟨g_48, w⟩ := w
    exact jw_athrow rfl rfl g_48 w
def T_X17_source (D : JD) (d : Nat) (Q : JO → JH → Prop) (r0 : Nat) (r1 : Nat) (x2 : Int32) (x3 : Int32) (h : JH) : Prop := W_X17_source_0 D d Q r0 r1 x2 x3 h
theorem t_X17_source {D : JD} {d : Nat} {Q : JO → JH → Prop} {r0 : Nat} {r1 : Nat} {x2 : Int32} {x3 : Int32} {h : JH} (w : T_X17_source D d Q r0 r1 x2 x3 h) : cX17_source D (d + 1) r0 r1 x2 x3 h Q := by
  unfold T_X17_source at w
  unfold cX17_source
  exact w_X17_source_0 w
def W_X17_orders_79 (D : JD) (d : Nat) (Q : JO → JH → Prop) (K10 : Nat → Nat → JH → Prop) (r0 : Nat) (r1 : Nat) (h : JH) : Prop :=
  r1 ≠ 0 ∧ (∀ h_2 : JH, h_2 = wfi h 153 r1 ((jfi h 153 r1) + (1 : Int32)) → (r0 ≠ 0 ∧ ((jfr h_2 79 r0) ≠ 0 ∧ (cX18_takes D d (jfr h_2 79 r0) (jcs D 100) h_2 (pI D h_2 (fun v_8 h_6 => (¬ v_8 = 0 → K10 r0 r1 h_6) ∧ (v_8 = 0 → Q (.inl none) h_6)) (jth Q))))))
theorem w_X17_orders_79 {D : JD} {d : Nat} {Q : JO → JH → Prop} {K10 : Nat → Nat → JH → Prop} {r0 : Nat} {r1 : Nat} {h : JH} (hK10 : ∀ (r0 : Nat) (r1 : Nat) (h : JH), K10 r0 r1 h → JW D (d + 1) mX17_orders 10 [some (vR 14 r0), some (vR 33 r1)] [] h Q) (w : W_X17_orders_79 D d Q K10 r0 r1 h) : JW D (d + 1) mX17_orders 79 [some (vR 14 r0), some (vR 33 r1)] [] h Q := by
  unfold W_X17_orders_79 at w
  refine jw_aload_n (pc' := 80) rfl rfl ?_
  refine jw_dup (pc' := 81) rfl rfl ?_
  obtain ⟨g_1, w⟩ := w
  refine jw_getI (pc' := 84) (F := 153) rfl rfl rfl rfl g_1 ?_
  refine jw_iconst (pc' := 85) (x := (1 : Int32)) rfl rfl ?_
  refine jw_iadd (pc' := 86) rfl ?_
  refine jw_putI' (pc' := 89) (F := 153) rfl rfl rfl (Or.inr rfl) (Or.inl rfl) rfl (rfl) (rfl) rfl g_1 (fun h_2 e_3 => ?_)
  replace w := w h_2 e_3
  refine jw_aload_n (pc' := 90) rfl rfl ?_
  obtain ⟨g_4, w⟩ := w
  refine jw_getR (pc' := 93) (F := 79) (t' := 15) rfl rfl rfl rfl rfl g_4 ?_
  refine jw_ldcS (pc' := 95) rfl rfl rfl rfl ?_
  obtain ⟨g_5, w⟩ := w
  refine jw_cI (st := []) (sa := [vR 15 (jfr h_2 79 r0), vR 51 (jcs D 100)]) okX18_takes rfl rfl rfl rfl rfl rfl (jstp_virtual (sa := [vR 51 (jcs D 100)]) (st := []) (k := 0) rfl rfl sX18_takes okX18_takes g_5 (one15.k g_5) rfl rfl) w (fun v_8 h_6 _ _ w => ?_)
  refine jw_if_ne (tgt := 10) (pc' := 101) rfl rfl (fun c_9 => ?_) (fun c_9 => ?_)
  · replace w := w.1 c_9
    exact hK10 _ _ _ w
  · replace w := w.2 c_9
    exact jw_return rfl rfl w
def W_X17_orders_10 (D : JD) (d : Nat) (Q : JO → JH → Prop) (K10 : Nat → Nat → JH → Prop) (r0 : Nat) (r1 : Nat) (h : JH) : Prop :=
  r1 ≠ 0 ∧ ((¬ (jfi h 153 r1) = (8 : Int32) → r0 ≠ 0 ∧ (cX17_expression D d r0 h (pR D h 55 (fun v_6 h_4 => (jfr h 150 r1) ≠ 0 ∧ jin (jfi h 153 r1) (jln h_4 (jfr h 150 r1)) ∧ ∀ h_9 : JH, h_9 = war h_4 (jfr h 150 r1) (ixn (jfi h 153 r1)) v_6 → ((jfr h_9 79 r0) ≠ 0 ∧ (cX18_takesWord D d (jfr h_9 79 r0) (jcs D 147) h_9 (pI D h_9 (fun v_14 h_12 => (jfr h_9 151 r1) ≠ 0 ∧ jin (jfi h_9 153 r1) (jln h_12 (jfr h_9 151 r1)) ∧ jbo v_14 ∧ ∀ h_18 : JH, h_18 = wai h_12 (jfr h_9 151 r1) (ixn (jfi h_9 153 r1)) v_14 → ((jfr h_18 151 r1) ≠ 0 ∧ jin (jfi h_18 153 r1) (jln h_18 (jfr h_18 151 r1)) ∧ ((¬ (jai h_18 (jfr h_18 151 r1) (ixn (jfi h_18 153 r1))) = 0 → W_X17_orders_79 D d Q K10 r0 r1 h_18) ∧ ((jai h_18 (jfr h_18 151 r1) (ixn (jfi h_18 153 r1))) = 0 → (jfr h_18 79 r0) ≠ 0 ∧ (cX18_takesWord D d (jfr h_18 79 r0) (jcs D 148) h_18 (pI D h_18 (fun v_26 h_24 => W_X17_orders_79 D d Q K10 r0 r1 h_24) (jth Q))))))) (jth Q))))) (jth Q)))) ∧ ((jfi h 153 r1) = (8 : Int32) → r0 ≠ 0 ∧ (cX17_broken D d r0 h (pR D h 9 (fun v_30 h_28 => v_30 ≠ 0 ∧ (Q (.inr v_30) h_28)) (jth Q)))))
theorem w_X17_orders_10 {D : JD} {d : Nat} {Q : JO → JH → Prop} {K10 : Nat → Nat → JH → Prop} {r0 : Nat} {r1 : Nat} {h : JH} (hK10 : ∀ (r0 : Nat) (r1 : Nat) (h : JH), K10 r0 r1 h → JW D (d + 1) mX17_orders 10 [some (vR 14 r0), some (vR 33 r1)] [] h Q) (w : W_X17_orders_10 D d Q K10 r0 r1 h) : JW D (d + 1) mX17_orders 10 [some (vR 14 r0), some (vR 33 r1)] [] h Q := by
  unfold W_X17_orders_10 at w
  refine jw_aload_n (pc' := 11) rfl rfl ?_
  obtain ⟨g_1, w⟩ := w
  refine jw_getI (pc' := 14) (F := 153) rfl rfl rfl rfl g_1 ?_
  refine jw_bipush (pc' := 16) (x := (8 : Int32)) rfl rfl ?_
  refine jw_icmp_ne (tgt := 24) (pc' := 19) rfl rfl (fun c_2 => ?_) (fun c_2 => ?_)
  · replace w := w.1 c_2
    refine jw_aload_n (pc' := 25) rfl rfl ?_
    refine jw_getR (pc' := 28) (F := 150) (t' := 155) rfl rfl rfl rfl rfl g_1 ?_
    refine jw_aload_n (pc' := 29) rfl rfl ?_
    refine jw_getI (pc' := 32) (F := 153) rfl rfl rfl rfl g_1 ?_
    refine jw_aload_n (pc' := 33) rfl rfl ?_
    obtain ⟨g_3, w⟩ := w
    refine jw_cR (st := [vI (jfi h 153 r1), vR 155 (jfr h 150 r1)]) (sa := [vR 14 r0]) okX17_expression rfl rfl rfl rfl rfl rfl (jstp_virtual (sa := []) (st := [vI (jfi h 153 r1), vR 155 (jfr h 150 r1)]) (k := 0) rfl rfl sX17_expression okX17_expression g_3 (one14.k g_3) rfl rfl) w (fun v_6 h_4 _ _ _ w => ?_)
    obtain ⟨g_7, w⟩ := w
    obtain ⟨g_8, w⟩ := w
    refine jw_aast' (pc' := 37) rfl rfl rfl rfl rfl rfl g_7 g_8 (fun h_9 e_10 => ?_)
    replace w := w h_9 e_10
    refine jw_aload_n (pc' := 38) rfl rfl ?_
    refine jw_getR (pc' := 41) (F := 151) (t' := 156) rfl rfl rfl rfl rfl g_1 ?_
    refine jw_aload_n (pc' := 42) rfl rfl ?_
    refine jw_getI (pc' := 45) (F := 153) rfl rfl rfl rfl g_1 ?_
    refine jw_aload_n (pc' := 46) rfl rfl ?_
    refine jw_getR (pc' := 49) (F := 79) (t' := 15) rfl rfl rfl rfl rfl g_3 ?_
    refine jw_ldcwS (pc' := 52) rfl rfl rfl rfl ?_
    obtain ⟨g_11, w⟩ := w
    refine jw_cI (st := [vI (jfi h_9 153 r1), vR 156 (jfr h_9 151 r1)]) (sa := [vR 15 (jfr h_9 79 r0), vR 51 (jcs D 147)]) okX18_takesWord rfl rfl rfl rfl rfl rfl (jstp_virtual (sa := [vR 51 (jcs D 147)]) (st := [vI (jfi h_9 153 r1), vR 156 (jfr h_9 151 r1)]) (k := 0) rfl rfl sX18_takesWord okX18_takesWord g_11 (one15.k g_11) rfl rfl) w (fun v_14 h_12 _ _ w => ?_)
    obtain ⟨g_15, w⟩ := w
    obtain ⟨g_16, w⟩ := w
    obtain ⟨g_17, w⟩ := w
    refine jw_zast' (pc' := 56) rfl rfl rfl rfl rfl (g_17.nr) g_15 g_16 (fun h_18 e_19 => ?_)
    replace w := w h_18 e_19
    refine jw_aload_n (pc' := 57) rfl rfl ?_
    refine jw_getR (pc' := 60) (F := 151) (t' := 156) rfl rfl rfl rfl rfl g_1 ?_
    refine jw_aload_n (pc' := 61) rfl rfl ?_
    refine jw_getI (pc' := 64) (F := 153) rfl rfl rfl rfl g_1 ?_
    obtain ⟨g_20, w⟩ := w
    obtain ⟨g_21, w⟩ := w
    refine jw_zald (pc' := 65) rfl rfl rfl rfl g_20 g_21.ix g_21.2 ?_
    refine jw_if_ne (tgt := 79) (pc' := 68) rfl rfl (fun c_22 => ?_) (fun c_22 => ?_)
    · replace w := w.1 c_22
      exact w_X17_orders_79 hK10 w
    · replace w := w.2 c_22
      refine jw_aload_n (pc' := 69) rfl rfl ?_
      refine jw_getR (pc' := 72) (F := 79) (t' := 15) rfl rfl rfl rfl rfl g_3 ?_
      refine jw_ldcwS (pc' := 75) rfl rfl rfl rfl ?_
      obtain ⟨g_23, w⟩ := w
      refine jw_cI (st := []) (sa := [vR 15 (jfr h_18 79 r0), vR 51 (jcs D 148)]) okX18_takesWord rfl rfl rfl rfl rfl rfl (jstp_virtual (sa := [vR 51 (jcs D 148)]) (st := []) (k := 0) rfl rfl sX18_takesWord okX18_takesWord g_23 (one15.k g_23) rfl rfl) w (fun v_26 h_24 _ _ w => ?_)
      refine jw_pop (pc' := 79) rfl rfl ?_
      exact w_X17_orders_79 hK10 w
  · replace w := w.2 c_2
    refine jw_aload_n (pc' := 20) rfl rfl ?_
    obtain ⟨g_27, w⟩ := w
    refine jw_cR (st := []) (sa := [vR 14 r0]) okX17_broken rfl rfl rfl rfl rfl rfl (jstp_virtual (sa := []) (st := []) (k := 0) rfl rfl sX17_broken okX17_broken g_27 (one14.k g_27) rfl rfl) w (fun v_30 h_28 _ _ _ w => ?_)
    obtain ⟨g_31, w⟩ := w
    exact jw_athrow rfl rfl g_31 w
def L_X17_orders_10 (D : JD) (d : Nat) (Q : JO → JH → Prop) : Nat → Nat → Nat → JH → Prop
  | 0 => fun _ _ _ => False
  | n + 1 => fun r0 r1 h => W_X17_orders_10 D d Q (L_X17_orders_10 D d Q n) r0 r1 h
theorem l_X17_orders_10 {D : JD} {d : Nat} {Q : JO → JH → Prop} : ∀ (n : Nat) (r0 : Nat) (r1 : Nat) (h : JH), L_X17_orders_10 D d Q n r0 r1 h → JW D (d + 1) mX17_orders 10 [some (vR 14 r0), some (vR 33 r1)] [] h Q := by
  intro n
  induction n with
  | zero => intro _ _ _ w; exact w.elim
  | succ n ih => intro _ _ h w; exact w_X17_orders_10 ih w
def W_X17_orders_0 (D : JD) (d : Nat) (Q : JO → JH → Prop) (r0 : Nat) (r1 : Nat) (h : JH) : Prop :=
  r0 ≠ 0 ∧ ((jfr h 79 r0) ≠ 0 ∧ (cX18_needWord D d (jfr h 79 r0) (jcs D 144) h (pV D h (fun h_3 => ∃ n, L_X17_orders_10 D d Q n r0 r1 h_3) (jth Q))))
theorem w_X17_orders_0 {D : JD} {d : Nat} {Q : JO → JH → Prop} {r0 : Nat} {r1 : Nat} {h : JH} (w : W_X17_orders_0 D d Q r0 r1 h) : JW D (d + 1) mX17_orders 0 [some (vR 14 r0), some (vR 33 r1)] [] h Q := by
  unfold W_X17_orders_0 at w
  refine jw_aload_n (pc' := 1) rfl rfl ?_
  obtain ⟨g_1, w⟩ := w
  refine jw_getR (pc' := 4) (F := 79) (t' := 15) rfl rfl rfl rfl rfl g_1 ?_
  refine jw_ldcwS (pc' := 7) rfl rfl rfl rfl ?_
  obtain ⟨g_2, w⟩ := w
  refine jw_cV (st := []) (sa := [vR 15 (jfr h 79 r0), vR 51 (jcs D 144)]) okX18_needWord rfl rfl rfl rfl rfl rfl (jstp_virtual (sa := [vR 51 (jcs D 144)]) (st := []) (k := 0) rfl rfl sX18_needWord okX18_needWord g_2 (one15.k g_2) rfl rfl) w (fun h_3 _ _ w => ?_)
  obtain ⟨n, w⟩ := w
  exact l_X17_orders_10 n _ _ _ w
def T_X17_orders (D : JD) (d : Nat) (Q : JO → JH → Prop) (r0 : Nat) (r1 : Nat) (h : JH) : Prop := W_X17_orders_0 D d Q r0 r1 h
theorem t_X17_orders {D : JD} {d : Nat} {Q : JO → JH → Prop} {r0 : Nat} {r1 : Nat} {h : JH} (w : T_X17_orders D d Q r0 r1 h) : cX17_orders D (d + 1) r0 r1 h Q := by
  unfold T_X17_orders at w
  unfold cX17_orders
  exact w_X17_orders_0 w
def W_X17_integer_0 (D : JD) (d : Nat) (Q : JO → JH → Prop) (r0 : Nat) (h : JH) : Prop :=
  r0 ≠ 0 ∧ ((jfr h 79 r0) ≠ 0 ∧ (((jfr h 86 (jfr h 79 r0)) = (jcs D 352) → cX18_next D d (jfr h 79 r0) h (pV D h (fun h_4 => Q (.inl (some (vL (jfl h 89 (jfr h 79 r0))))) h_4) (jth Q))) ∧ (¬ (jfr h 86 (jfr h 79 r0)) = (jcs D 352) → cX17_broken D d r0 h (pR D h 9 (fun v_9 h_7 => v_9 ≠ 0 ∧ (Q (.inr v_9) h_7)) (jth Q)))))
theorem w_X17_integer_0 {D : JD} {d : Nat} {Q : JO → JH → Prop} {r0 : Nat} {h : JH} (w : W_X17_integer_0 D d Q r0 h) : JW D (d + 1) mX17_integer 0 [some (vR 14 r0), none, none] [] h Q := by
  unfold W_X17_integer_0 at w
  refine jw_aload_n (pc' := 1) rfl rfl ?_
  obtain ⟨g_1, w⟩ := w
  refine jw_getR (pc' := 4) (F := 79) (t' := 15) rfl rfl rfl rfl rfl g_1 ?_
  obtain ⟨g_2, w⟩ := w
  refine jw_getR (pc' := 7) (F := 86) (t' := 53) rfl rfl rfl rfl rfl g_2 ?_
  refine jw_getsR (pc' := 10) rfl rfl rfl rfl ?_
  refine jw_acmp_eq (tgt := 18) (pc' := 13) rfl rfl (fun c_3 => ?_) (fun c_3 => ?_)
  · replace w := w.1 c_3
    refine jw_aload_n (pc' := 19) rfl rfl ?_
    refine jw_getR (pc' := 22) (F := 79) (t' := 15) rfl rfl rfl rfl rfl g_1 ?_
    refine jw_getL (pc' := 25) (F := 89) rfl rfl rfl rfl g_2 ?_
    refine jw_lstore_n (pc' := 26) (ls' := [some (vR 14 r0), some (vL (jfl h 89 (jfr h 79 r0))), none]) rfl (by decide) rfl ?_
    refine jw_aload_n (pc' := 27) rfl rfl ?_
    refine jw_getR (pc' := 30) (F := 79) (t' := 15) rfl rfl rfl rfl rfl g_1 ?_
    refine jw_cV (st := []) (sa := [vR 15 (jfr h 79 r0)]) okX18_next rfl rfl rfl rfl rfl rfl (jstp_virtual (sa := []) (st := []) (k := 0) rfl rfl sX18_next okX18_next g_2 (one15.k g_2) rfl rfl) w (fun h_4 _ _ w => ?_)
    refine jw_lload_n (pc' := 34) rfl rfl ?_
    exact jw_lreturn rfl rfl w
  · replace w := w.2 c_3
    refine jw_aload_n (pc' := 14) rfl rfl ?_
    refine jw_cR (st := []) (sa := [vR 14 r0]) okX17_broken rfl rfl rfl rfl rfl rfl (jstp_virtual (sa := []) (st := []) (k := 0) rfl rfl sX17_broken okX17_broken g_1 (one14.k g_1) rfl rfl) w (fun v_9 h_7 _ _ _ w => ?_)
    obtain ⟨g_10, w⟩ := w
    exact jw_athrow rfl rfl g_10 w
def T_X17_integer (D : JD) (d : Nat) (Q : JO → JH → Prop) (r0 : Nat) (h : JH) : Prop := W_X17_integer_0 D d Q r0 h
theorem t_X17_integer {D : JD} {d : Nat} {Q : JO → JH → Prop} {r0 : Nat} {h : JH} (w : T_X17_integer D d Q r0 h) : cX17_integer D (d + 1) r0 h Q := by
  unfold T_X17_integer at w
  unfold cX17_integer
  exact w_X17_integer_0 w
def W_X17_parameters_0 (D : JD) (d : Nat) (Q : JO → JH → Prop) (r0 : Nat) (h : JH) : Prop :=
  r0 ≠ 0 ∧ (Q (.inl (some (vI (jfi h 82 r0)))) h)
theorem w_X17_parameters_0 {D : JD} {d : Nat} {Q : JO → JH → Prop} {r0 : Nat} {h : JH} (w : W_X17_parameters_0 D d Q r0 h) : JW D (d + 1) mX17_parameters 0 [some (vR 14 r0)] [] h Q := by
  unfold W_X17_parameters_0 at w
  refine jw_aload_n (pc' := 1) rfl rfl ?_
  obtain ⟨g_1, w⟩ := w
  refine jw_getI (pc' := 4) (F := 82) rfl rfl rfl rfl g_1 ?_
  exact jw_ireturn rfl rfl (rfl) w
def T_X17_parameters (D : JD) (d : Nat) (Q : JO → JH → Prop) (r0 : Nat) (h : JH) : Prop := W_X17_parameters_0 D d Q r0 h
theorem t_X17_parameters {D : JD} {d : Nat} {Q : JO → JH → Prop} {r0 : Nat} {h : JH} (w : T_X17_parameters D d Q r0 h) : cX17_parameters D (d + 1) r0 h Q := by
  unfold T_X17_parameters at w
  unfold cX17_parameters
  exact w_X17_parameters_0 w
def W_X18_init_0 (D : JD) (d : Nat) (Q : JO → JH → Prop) (r0 : Nat) (r1 : Nat) (x2 : Int32) (x3 : Int32) (h : JH) : Prop :=
  r0 ≠ 0 ∧ (∀ (r_2 : Nat) (h_3 : JH), r_2 = jsz h + 1 → h_3 = nwo h 100 5 → (cX14_init D d r_2 h_3 (pV D h_3 (fun h_6 => ∀ h_9 : JH, h_9 = wfr h_6 90 r0 r_2 → (∀ h_11 : JH, h_11 = wfr h_9 83 r0 r1 → (∀ h_13 : JH, h_13 = wfi h_11 84 r0 x3 → (∀ h_15 : JH, h_15 = wfi h_13 91 r0 x2 → (∀ h_17 : JH, h_17 = wfi h_15 85 r0 x2 → (cX18_next D d r0 h_17 (pV D h_17 (fun h_19 => Q (.inl none) h_19) (jth Q)))))))) (jth Q))))
theorem w_X18_init_0 {D : JD} {d : Nat} {Q : JO → JH → Prop} {r0 : Nat} {r1 : Nat} {x2 : Int32} {x3 : Int32} {h : JH} (w : W_X18_init_0 D d Q r0 r1 x2 x3 h) : JW D (d + 1) mX18_init 0 [some (vR 15 r0), some (vR 65 r1), some (vI x2), some (vI x3)] [] h Q := by
  unfold W_X18_init_0 at w
  refine jw_aload_n (pc' := 1) rfl rfl ?_
  obtain ⟨g_1, w⟩ := w
  refine jw_obj (pc' := 4) rfl (lw_g (jtb_mem (c := 5) (i := 48) rfl) rfl) rfl g_1 ?_
  refine jw_aload_n (pc' := 5) rfl rfl ?_
  refine jw_new' (pc' := 8) (k := 100) (n := 5) rfl rfl rfl rfl rfl rfl rfl (fun r_2 h_3 e_4 e_5 => ?_)
  replace w := w r_2 h_3 e_4 e_5
  refine jw_dup (pc' := 9) rfl rfl ?_
  refine jw_cV (st := [vR 100 r_2, vR 15 r0]) (sa := [vR 100 r_2]) okX14_init rfl rfl rfl rfl rfl rfl (jstp_init (sa := []) (st := [vR 100 r_2, vR 15 r0]) rfl rfl sX14_init okX14_init (lw_g (jtb_mem (c := 2) (i := 222) rfl) rfl) (jnz e_4) rfl rfl) w (fun h_6 _ _ w => ?_)
  refine jw_putR' (pc' := 15) (F := 90) rfl rfl rfl (Or.inr rfl) (Or.inr ⟨rfl, rfl⟩) rfl rfl rfl g_1 (fun h_9 e_10 => ?_)
  replace w := w h_9 e_10
  refine jw_aload_n (pc' := 16) rfl rfl ?_
  refine jw_aload_n (pc' := 17) rfl rfl ?_
  refine jw_putR' (pc' := 20) (F := 83) rfl rfl rfl (Or.inr rfl) (Or.inr ⟨rfl, rfl⟩) rfl rfl rfl g_1 (fun h_11 e_12 => ?_)
  replace w := w h_11 e_12
  refine jw_aload_n (pc' := 21) rfl rfl ?_
  refine jw_iload_n (pc' := 22) rfl rfl ?_
  refine jw_putI' (pc' := 25) (F := 84) rfl rfl rfl (Or.inr rfl) (Or.inr ⟨rfl, rfl⟩) rfl (rfl) (rfl) rfl g_1 (fun h_13 e_14 => ?_)
  replace w := w h_13 e_14
  refine jw_aload_n (pc' := 26) rfl rfl ?_
  refine jw_iload_n (pc' := 27) rfl rfl ?_
  refine jw_putI' (pc' := 30) (F := 91) rfl rfl rfl (Or.inr rfl) (Or.inr ⟨rfl, rfl⟩) rfl (rfl) (rfl) rfl g_1 (fun h_15 e_16 => ?_)
  replace w := w h_15 e_16
  refine jw_aload_n (pc' := 31) rfl rfl ?_
  refine jw_iload_n (pc' := 32) rfl rfl ?_
  refine jw_putI' (pc' := 35) (F := 85) rfl rfl rfl (Or.inr rfl) (Or.inl rfl) rfl (rfl) (rfl) rfl g_1 (fun h_17 e_18 => ?_)
  replace w := w h_17 e_18
  refine jw_aload_n (pc' := 36) rfl rfl ?_
  refine jw_cV (st := []) (sa := [vR 15 r0]) okX18_next rfl rfl rfl rfl rfl rfl (jstp_virtual (sa := []) (st := []) (k := 0) rfl rfl sX18_next okX18_next g_1 (one15.k g_1) rfl rfl) w (fun h_19 _ _ w => ?_)
  exact jw_return rfl rfl w
def T_X18_init (D : JD) (d : Nat) (Q : JO → JH → Prop) (r0 : Nat) (r1 : Nat) (x2 : Int32) (x3 : Int32) (h : JH) : Prop := W_X18_init_0 D d Q r0 r1 x2 x3 h
theorem t_X18_init {D : JD} {d : Nat} {Q : JO → JH → Prop} {r0 : Nat} {r1 : Nat} {x2 : Int32} {x3 : Int32} {h : JH} (w : T_X18_init D d Q r0 r1 x2 x3 h) : cX18_init D (d + 1) r0 r1 x2 x3 h Q := by
  unfold T_X18_init at w
  unfold cX18_init
  exact w_X18_init_0 w
def W_X18_next_148 (D : JD) (d : Nat) (Q : JO → JH → Prop) (h : JH) : Prop :=
  Q (.inl none) h
theorem w_X18_next_148 {D : JD} {d : Nat} {Q : JO → JH → Prop} {h : JH} (w : W_X18_next_148 D d Q h) : JW D (d + 1) mX18_next 148 [none, none] [] h Q := by
  unfold W_X18_next_148 at w
  exact jw_return rfl rfl w
def W_X18_next_105 (D : JD) (d : Nat) (Q : JO → JH → Prop) (r0 : Nat) (h : JH) : Prop :=
  r0 ≠ 0 ∧ (cX18_broken D d r0 h (pR D h 9 (fun v_4 h_2 => v_4 ≠ 0 ∧ (Q (.inr v_4) h_2)) (jth Q)))
theorem w_X18_next_105 {D : JD} {d : Nat} {Q : JO → JH → Prop} {r0 : Nat} {h : JH} (w : W_X18_next_105 D d Q r0 h) : JW D (d + 1) mX18_next 105 [some (vR 15 r0), none] [] h Q := by
  unfold W_X18_next_105 at w
  refine jw_aload_n (pc' := 106) rfl rfl ?_
  obtain ⟨g_1, w⟩ := w
  refine jw_cR (st := []) (sa := [vR 15 r0]) okX18_broken rfl rfl rfl rfl rfl rfl (jstp_virtual (sa := []) (st := []) (k := 0) rfl rfl sX18_broken okX18_broken g_1 (one15.k g_1) rfl rfl) w (fun v_4 h_2 _ _ _ w => ?_)
  obtain ⟨g_5, w⟩ := w
  exact jw_athrow rfl rfl g_5 w
def W_X18_next_0 (D : JD) (d : Nat) (Q : JO → JH → Prop) (r0 : Nat) (h : JH) : Prop :=
  r0 ≠ 0 ∧ (cX18_skip D d r0 h (pV D h (fun h_2 => ∀ h_5 : JH, h_5 = wfi h_2 87 r0 (jfi h_2 85 r0) → (cX18_look D d r0 (0 : Int32) h_5 (pI D h_5 (fun v_9 h_7 => ∀ h_10 : JH, h_10 = wfr h_7 88 r0 (jcs D 10) → ((0 ≤ v_9 → cX18_letter D d v_9 h_10 (pI D h_10 (fun v_15 h_13 => (v_15 = 0 → cX18_digit D d v_9 h_13 (pI D h_13 (fun v_19 h_17 => (v_19 = 0 → (¬ v_9 = (39 : Int32) → (¬ v_9 = (36 : Int32) → cX18_sign D d r0 v_9 h_17 (pV D h_17 (fun h_23 => W_X18_next_148 D d Q h_23) (jth Q))) ∧ (v_9 = (36 : Int32) → cX18_look D d r0 (1 : Int32) h_17 (pI D h_17 (fun v_28 h_26 => (v_28 < (49 : Int32) → W_X18_next_105 D d Q r0 h_26) ∧ (¬ v_28 < (49 : Int32) → cX18_look D d r0 (1 : Int32) h_26 (pI D h_26 (fun v_32 h_30 => (v_32 ≤ (56 : Int32) → ∀ h_34 : JH, h_34 = wfr h_30 86 r0 (jcs D 354) → (cX18_look D d r0 (1 : Int32) h_34 (pI D h_34 (fun v_38 h_36 => ∀ h_39 : JH, h_39 = wfl h_36 89 r0 (Int32.toInt64 (v_38 - (48 : Int32))) → (∀ h_41 : JH, h_41 = wfi h_39 85 r0 ((jfi h_39 85 r0) + (2 : Int32)) → (W_X18_next_148 D d Q h_41))) (jth Q)))) ∧ (¬ v_32 ≤ (56 : Int32) → W_X18_next_105 D d Q r0 h_30)) (jth Q)))) (jth Q)))) ∧ (v_9 = (39 : Int32) → cX18_quoted D d r0 h_17 (pV D h_17 (fun h_43 => W_X18_next_148 D d Q h_43) (jth Q)))) ∧ (¬ v_19 = 0 → cX18_number D d r0 h_17 (pV D h_17 (fun h_46 => W_X18_next_148 D d Q h_46) (jth Q)))) (jth Q))) ∧ (¬ v_15 = 0 → cX18_word D d r0 h_13 (pV D h_13 (fun h_49 => W_X18_next_148 D d Q h_49) (jth Q)))) (jth Q))) ∧ (¬ 0 ≤ v_9 → ∀ h_52 : JH, h_52 = wfr h_10 86 r0 (jcs D 350) → (W_X18_next_148 D d Q h_52)))) (jth Q)))) (jth Q)))
theorem w_X18_next_0 {D : JD} {d : Nat} {Q : JO → JH → Prop} {r0 : Nat} {h : JH} (w : W_X18_next_0 D d Q r0 h) : JW D (d + 1) mX18_next 0 [some (vR 15 r0), none] [] h Q := by
  unfold W_X18_next_0 at w
  refine jw_aload_n (pc' := 1) rfl rfl ?_
  obtain ⟨g_1, w⟩ := w
  refine jw_cV (st := []) (sa := [vR 15 r0]) okX18_skip rfl rfl rfl rfl rfl rfl (jstp_virtual (sa := []) (st := []) (k := 0) rfl rfl sX18_skip okX18_skip g_1 (one15.k g_1) rfl rfl) w (fun h_2 _ _ w => ?_)
  refine jw_aload_n (pc' := 5) rfl rfl ?_
  refine jw_aload_n (pc' := 6) rfl rfl ?_
  refine jw_getI (pc' := 9) (F := 85) rfl rfl rfl rfl g_1 ?_
  refine jw_putI' (pc' := 12) (F := 87) rfl rfl rfl (Or.inr rfl) (Or.inl rfl) rfl (rfl) (rfl) rfl g_1 (fun h_5 e_6 => ?_)
  replace w := w h_5 e_6
  refine jw_aload_n (pc' := 13) rfl rfl ?_
  refine jw_iconst (pc' := 14) (x := (0 : Int32)) rfl rfl ?_
  refine jw_cI (st := []) (sa := [vR 15 r0, vI (0 : Int32)]) okX18_look rfl rfl rfl rfl rfl rfl (jstp_virtual (sa := [vI (0 : Int32)]) (st := []) (k := 0) rfl rfl sX18_look okX18_look g_1 (one15.k g_1) rfl rfl) w (fun v_9 h_7 _ _ w => ?_)
  refine jw_istore_n (pc' := 18) (ls' := [some (vR 15 r0), some (vI v_9)]) rfl (by decide) rfl ?_
  refine jw_aload_n (pc' := 19) rfl rfl ?_
  refine jw_ldcS (pc' := 21) rfl rfl rfl rfl ?_
  refine jw_putR' (pc' := 24) (F := 88) rfl rfl rfl (Or.inr rfl) (Or.inl rfl) rfl rfl rfl g_1 (fun h_10 e_11 => ?_)
  replace w := w h_10 e_11
  refine jw_iload_n (pc' := 25) rfl rfl ?_
  refine jw_if_ge (tgt := 38) (pc' := 28) rfl rfl (fun c_12 => ?_) (fun c_12 => ?_)
  · replace w := w.1 c_12
    refine jw_iload_n (pc' := 39) rfl rfl ?_
    refine jw_cI (st := []) (sa := [vI v_9]) okX18_letter rfl rfl rfl rfl rfl rfl (jstp_static (sa := [vI v_9]) (st := []) rfl rfl sX18_letter okX18_letter rfl rfl) w (fun v_15 h_13 _ _ w => ?_)
    refine jw_if_eq (tgt := 52) (pc' := 45) rfl rfl (fun c_16 => ?_) (fun c_16 => ?_)
    · replace w := w.1 c_16
      refine jw_iload_n (pc' := 53) rfl rfl ?_
      refine jw_cI (st := []) (sa := [vI v_9]) okX18_digit rfl rfl rfl rfl rfl rfl (jstp_static (sa := [vI v_9]) (st := []) rfl rfl sX18_digit okX18_digit rfl rfl) w (fun v_19 h_17 _ _ w => ?_)
      refine jw_if_eq (tgt := 66) (pc' := 59) rfl rfl (fun c_20 => ?_) (fun c_20 => ?_)
      · replace w := w.1 c_20
        refine jw_iload_n (pc' := 67) rfl rfl ?_
        refine jw_bipush (pc' := 69) (x := (39 : Int32)) rfl rfl ?_
        refine jw_icmp_ne (tgt := 79) (pc' := 72) rfl rfl (fun c_21 => ?_) (fun c_21 => ?_)
        · replace w := w.1 c_21
          refine jw_iload_n (pc' := 80) rfl rfl ?_
          refine jw_bipush (pc' := 82) (x := (36 : Int32)) rfl rfl ?_
          refine jw_icmp_ne (tgt := 143) (pc' := 85) rfl rfl (fun c_22 => ?_) (fun c_22 => ?_)
          · replace w := w.1 c_22
            refine jw_aload_n (pc' := 144) rfl rfl ?_
            refine jw_iload_n (pc' := 145) rfl rfl ?_
            refine jw_cV (st := []) (sa := [vR 15 r0, vI v_9]) okX18_sign rfl rfl rfl rfl rfl rfl (jstp_virtual (sa := [vI v_9]) (st := []) (k := 0) rfl rfl sX18_sign okX18_sign g_1 (one15.k g_1) rfl rfl) w (fun h_23 _ _ w => ?_)
            refine jw_gen (ls' := [none, none]) (st' := []) (trivial) (trivial) ?_
            exact w_X18_next_148 w
          · replace w := w.2 c_22
            refine jw_aload_n (pc' := 86) rfl rfl ?_
            refine jw_iconst (pc' := 87) (x := (1 : Int32)) rfl rfl ?_
            refine jw_cI (st := []) (sa := [vR 15 r0, vI (1 : Int32)]) okX18_look rfl rfl rfl rfl rfl rfl (jstp_virtual (sa := [vI (1 : Int32)]) (st := []) (k := 0) rfl rfl sX18_look okX18_look g_1 (one15.k g_1) rfl rfl) w (fun v_28 h_26 _ _ w => ?_)
            refine jw_bipush (pc' := 92) (x := (49 : Int32)) rfl rfl ?_
            refine jw_icmp_lt (tgt := 105) (pc' := 95) rfl rfl (fun c_29 => ?_) (fun c_29 => ?_)
            · replace w := w.1 c_29
              refine jw_gen (ls' := [some (vR 15 r0), none]) (st' := []) (And.intro (Or.inl rfl) (trivial)) (trivial) ?_
              exact w_X18_next_105 w
            · replace w := w.2 c_29
              refine jw_aload_n (pc' := 96) rfl rfl ?_
              refine jw_iconst (pc' := 97) (x := (1 : Int32)) rfl rfl ?_
              refine jw_cI (st := []) (sa := [vR 15 r0, vI (1 : Int32)]) okX18_look rfl rfl rfl rfl rfl rfl (jstp_virtual (sa := [vI (1 : Int32)]) (st := []) (k := 0) rfl rfl sX18_look okX18_look g_1 (one15.k g_1) rfl rfl) w (fun v_32 h_30 _ _ w => ?_)
              refine jw_bipush (pc' := 102) (x := (56 : Int32)) rfl rfl ?_
              refine jw_icmp_le (tgt := 110) (pc' := 105) rfl rfl (fun c_33 => ?_) (fun c_33 => ?_)
              · replace w := w.1 c_33
                refine jw_aload_n (pc' := 111) rfl rfl ?_
                refine jw_getsR (pc' := 114) rfl rfl rfl rfl ?_
                refine jw_putR' (pc' := 117) (F := 86) rfl rfl rfl (Or.inr rfl) (Or.inl rfl) rfl rfl rfl g_1 (fun h_34 e_35 => ?_)
                replace w := w h_34 e_35
                refine jw_aload_n (pc' := 118) rfl rfl ?_
                refine jw_aload_n (pc' := 119) rfl rfl ?_
                refine jw_iconst (pc' := 120) (x := (1 : Int32)) rfl rfl ?_
                refine jw_cI (st := [vR 15 r0]) (sa := [vR 15 r0, vI (1 : Int32)]) okX18_look rfl rfl rfl rfl rfl rfl (jstp_virtual (sa := [vI (1 : Int32)]) (st := [vR 15 r0]) (k := 0) rfl rfl sX18_look okX18_look g_1 (one15.k g_1) rfl rfl) w (fun v_38 h_36 _ _ w => ?_)
                refine jw_bipush (pc' := 125) (x := (48 : Int32)) rfl rfl ?_
                refine jw_isub (pc' := 126) rfl ?_
                refine jw_i2l (pc' := 127) rfl ?_
                refine jw_putL' (pc' := 130) (F := 89) rfl rfl rfl (Or.inr rfl) (Or.inl rfl) rfl rfl rfl g_1 (fun h_39 e_40 => ?_)
                replace w := w h_39 e_40
                refine jw_aload_n (pc' := 131) rfl rfl ?_
                refine jw_dup (pc' := 132) rfl rfl ?_
                refine jw_getI (pc' := 135) (F := 85) rfl rfl rfl rfl g_1 ?_
                refine jw_iconst (pc' := 136) (x := (2 : Int32)) rfl rfl ?_
                refine jw_iadd (pc' := 137) rfl ?_
                refine jw_putI' (pc' := 140) (F := 85) rfl rfl rfl (Or.inr rfl) (Or.inl rfl) rfl (rfl) (rfl) rfl g_1 (fun h_41 e_42 => ?_)
                replace w := w h_41 e_42
                refine jw_goto (pc' := 148) rfl rfl ?_
                refine jw_gen (ls' := [none, none]) (st' := []) (trivial) (trivial) ?_
                exact w_X18_next_148 w
              · replace w := w.2 c_33
                refine jw_gen (ls' := [some (vR 15 r0), none]) (st' := []) (And.intro (Or.inl rfl) (trivial)) (trivial) ?_
                exact w_X18_next_105 w
        · replace w := w.2 c_21
          refine jw_aload_n (pc' := 73) rfl rfl ?_
          refine jw_cV (st := []) (sa := [vR 15 r0]) okX18_quoted rfl rfl rfl rfl rfl rfl (jstp_virtual (sa := []) (st := []) (k := 0) rfl rfl sX18_quoted okX18_quoted g_1 (one15.k g_1) rfl rfl) w (fun h_43 _ _ w => ?_)
          refine jw_goto (pc' := 148) rfl rfl ?_
          refine jw_gen (ls' := [none, none]) (st' := []) (trivial) (trivial) ?_
          exact w_X18_next_148 w
      · replace w := w.2 c_20
        refine jw_aload_n (pc' := 60) rfl rfl ?_
        refine jw_cV (st := []) (sa := [vR 15 r0]) okX18_number rfl rfl rfl rfl rfl rfl (jstp_virtual (sa := []) (st := []) (k := 0) rfl rfl sX18_number okX18_number g_1 (one15.k g_1) rfl rfl) w (fun h_46 _ _ w => ?_)
        refine jw_goto (pc' := 148) rfl rfl ?_
        refine jw_gen (ls' := [none, none]) (st' := []) (trivial) (trivial) ?_
        exact w_X18_next_148 w
    · replace w := w.2 c_16
      refine jw_aload_n (pc' := 46) rfl rfl ?_
      refine jw_cV (st := []) (sa := [vR 15 r0]) okX18_word rfl rfl rfl rfl rfl rfl (jstp_virtual (sa := []) (st := []) (k := 0) rfl rfl sX18_word okX18_word g_1 (one15.k g_1) rfl rfl) w (fun h_49 _ _ w => ?_)
      refine jw_goto (pc' := 148) rfl rfl ?_
      refine jw_gen (ls' := [none, none]) (st' := []) (trivial) (trivial) ?_
      exact w_X18_next_148 w
  · replace w := w.2 c_12
    refine jw_aload_n (pc' := 29) rfl rfl ?_
    refine jw_getsR (pc' := 32) rfl rfl rfl rfl ?_
    refine jw_putR' (pc' := 35) (F := 86) rfl rfl rfl (Or.inr rfl) (Or.inl rfl) rfl rfl rfl g_1 (fun h_52 e_53 => ?_)
    replace w := w h_52 e_53
    refine jw_goto (pc' := 148) rfl rfl ?_
    refine jw_gen (ls' := [none, none]) (st' := []) (trivial) (trivial) ?_
    exact w_X18_next_148 w
def T_X18_next (D : JD) (d : Nat) (Q : JO → JH → Prop) (r0 : Nat) (h : JH) : Prop := W_X18_next_0 D d Q r0 h
theorem t_X18_next {D : JD} {d : Nat} {Q : JO → JH → Prop} {r0 : Nat} {h : JH} (w : T_X18_next D d Q r0 h) : cX18_next D (d + 1) r0 h Q := by
  unfold T_X18_next at w
  unfold cX18_next
  exact w_X18_next_0 w
def W_X18_skip_91 (D : JD) (d : Nat) (Q : JO → JH → Prop) (K0 : Nat → JH → Prop) (r0 : Nat) (h : JH) : Prop :=
  K0 r0 h
theorem w_X18_skip_91 {D : JD} {d : Nat} {Q : JO → JH → Prop} {K0 : Nat → JH → Prop} {r0 : Nat} {h : JH} (hK0 : ∀ (r0 : Nat) (h : JH), K0 r0 h → JW D (d + 1) mX18_skip 0 [some (vR 15 r0), none] [] h Q) (w : W_X18_skip_91 D d Q K0 r0 h) : JW D (d + 1) mX18_skip 91 [some (vR 15 r0), none] [] h Q := by
  unfold W_X18_skip_91 at w
  refine jw_goto (pc' := 0) rfl rfl ?_
  exact hK0 _ _ w
def W_X18_skip_30 (D : JD) (d : Nat) (Q : JO → JH → Prop) (K0 : Nat → JH → Prop) (r0 : Nat) (h : JH) : Prop :=
  r0 ≠ 0 ∧ (∀ h_2 : JH, h_2 = wfi h 85 r0 ((jfi h 85 r0) + (1 : Int32)) → (W_X18_skip_91 D d Q K0 r0 h_2))
theorem w_X18_skip_30 {D : JD} {d : Nat} {Q : JO → JH → Prop} {K0 : Nat → JH → Prop} {r0 : Nat} {h : JH} (hK0 : ∀ (r0 : Nat) (h : JH), K0 r0 h → JW D (d + 1) mX18_skip 0 [some (vR 15 r0), none] [] h Q) (w : W_X18_skip_30 D d Q K0 r0 h) : JW D (d + 1) mX18_skip 30 [some (vR 15 r0), none] [] h Q := by
  unfold W_X18_skip_30 at w
  refine jw_aload_n (pc' := 31) rfl rfl ?_
  refine jw_dup (pc' := 32) rfl rfl ?_
  obtain ⟨g_1, w⟩ := w
  refine jw_getI (pc' := 35) (F := 85) rfl rfl rfl rfl g_1 ?_
  refine jw_iconst (pc' := 36) (x := (1 : Int32)) rfl rfl ?_
  refine jw_iadd (pc' := 37) rfl ?_
  refine jw_putI' (pc' := 40) (F := 85) rfl rfl rfl (Or.inr rfl) (Or.inl rfl) rfl (rfl) (rfl) rfl g_1 (fun h_2 e_3 => ?_)
  replace w := w h_2 e_3
  refine jw_goto (pc' := 91) rfl rfl ?_
  exact w_X18_skip_91 hK0 w
def W_X18_skip_90 (D : JD) (d : Nat) (Q : JO → JH → Prop) (h : JH) : Prop :=
  Q (.inl none) h
theorem w_X18_skip_90 {D : JD} {d : Nat} {Q : JO → JH → Prop} {h : JH} (w : W_X18_skip_90 D d Q h) : JW D (d + 1) mX18_skip 90 [none, none] [] h Q := by
  unfold W_X18_skip_90 at w
  exact jw_return rfl rfl w
def W_X18_skip_59 (D : JD) (d : Nat) (Q : JO → JH → Prop) (K0 : Nat → JH → Prop) (K59 : Nat → JH → Prop) (r0 : Nat) (h : JH) : Prop :=
  r0 ≠ 0 ∧ (cX18_look D d r0 (0 : Int32) h (pI D h (fun v_4 h_2 => (v_4 < 0 → W_X18_skip_91 D d Q K0 r0 h_2) ∧ (¬ v_4 < 0 → cX18_look D d r0 (0 : Int32) h_2 (pI D h_2 (fun v_8 h_6 => (v_8 = (10 : Int32) → W_X18_skip_91 D d Q K0 r0 h_6) ∧ (¬ v_8 = (10 : Int32) → ∀ h_10 : JH, h_10 = wfi h_6 85 r0 ((jfi h_6 85 r0) + (1 : Int32)) → (K59 r0 h_10))) (jth Q)))) (jth Q)))
theorem w_X18_skip_59 {D : JD} {d : Nat} {Q : JO → JH → Prop} {K0 : Nat → JH → Prop} {K59 : Nat → JH → Prop} {r0 : Nat} {h : JH} (hK0 : ∀ (r0 : Nat) (h : JH), K0 r0 h → JW D (d + 1) mX18_skip 0 [some (vR 15 r0), none] [] h Q) (hK59 : ∀ (r0 : Nat) (h : JH), K59 r0 h → JW D (d + 1) mX18_skip 59 [some (vR 15 r0), none] [] h Q) (w : W_X18_skip_59 D d Q K0 K59 r0 h) : JW D (d + 1) mX18_skip 59 [some (vR 15 r0), none] [] h Q := by
  unfold W_X18_skip_59 at w
  refine jw_aload_n (pc' := 60) rfl rfl ?_
  refine jw_iconst (pc' := 61) (x := (0 : Int32)) rfl rfl ?_
  obtain ⟨g_1, w⟩ := w
  refine jw_cI (st := []) (sa := [vR 15 r0, vI (0 : Int32)]) okX18_look rfl rfl rfl rfl rfl rfl (jstp_virtual (sa := [vI (0 : Int32)]) (st := []) (k := 0) rfl rfl sX18_look okX18_look g_1 (one15.k g_1) rfl rfl) w (fun v_4 h_2 _ _ w => ?_)
  refine jw_if_lt (tgt := 91) (pc' := 67) rfl rfl (fun c_5 => ?_) (fun c_5 => ?_)
  · replace w := w.1 c_5
    exact w_X18_skip_91 hK0 w
  · replace w := w.2 c_5
    refine jw_aload_n (pc' := 68) rfl rfl ?_
    refine jw_iconst (pc' := 69) (x := (0 : Int32)) rfl rfl ?_
    refine jw_cI (st := []) (sa := [vR 15 r0, vI (0 : Int32)]) okX18_look rfl rfl rfl rfl rfl rfl (jstp_virtual (sa := [vI (0 : Int32)]) (st := []) (k := 0) rfl rfl sX18_look okX18_look g_1 (one15.k g_1) rfl rfl) w (fun v_8 h_6 _ _ w => ?_)
    refine jw_bipush (pc' := 74) (x := (10 : Int32)) rfl rfl ?_
    refine jw_icmp_eq (tgt := 91) (pc' := 77) rfl rfl (fun c_9 => ?_) (fun c_9 => ?_)
    · replace w := w.1 c_9
      exact w_X18_skip_91 hK0 w
    · replace w := w.2 c_9
      refine jw_aload_n (pc' := 78) rfl rfl ?_
      refine jw_dup (pc' := 79) rfl rfl ?_
      refine jw_getI (pc' := 82) (F := 85) rfl rfl rfl rfl g_1 ?_
      refine jw_iconst (pc' := 83) (x := (1 : Int32)) rfl rfl ?_
      refine jw_iadd (pc' := 84) rfl ?_
      refine jw_putI' (pc' := 87) (F := 85) rfl rfl rfl (Or.inr rfl) (Or.inl rfl) rfl (rfl) (rfl) rfl g_1 (fun h_10 e_11 => ?_)
      replace w := w h_10 e_11
      refine jw_goto (pc' := 59) rfl rfl ?_
      exact hK59 _ _ w
def L_X18_skip_59 (D : JD) (d : Nat) (Q : JO → JH → Prop) (K0 : Nat → JH → Prop) : Nat → Nat → JH → Prop
  | 0 => fun _ _ => False
  | n + 1 => fun r0 h => W_X18_skip_59 D d Q K0 (L_X18_skip_59 D d Q K0 n) r0 h
theorem l_X18_skip_59 {D : JD} {d : Nat} {Q : JO → JH → Prop} {K0 : Nat → JH → Prop} (hK0 : ∀ (r0 : Nat) (h : JH), K0 r0 h → JW D (d + 1) mX18_skip 0 [some (vR 15 r0), none] [] h Q) : ∀ (n : Nat) (r0 : Nat) (h : JH), L_X18_skip_59 D d Q K0 n r0 h → JW D (d + 1) mX18_skip 59 [some (vR 15 r0), none] [] h Q := by
  intro n
  induction n with
  | zero => intro _ _ w; exact w.elim
  | succ n ih => intro _ h w; exact w_X18_skip_59 hK0 ih w
def W_X18_skip_0 (D : JD) (d : Nat) (Q : JO → JH → Prop) (K0 : Nat → JH → Prop) (r0 : Nat) (h : JH) : Prop :=
  r0 ≠ 0 ∧ (cX18_look D d r0 (0 : Int32) h (pI D h (fun v_4 h_2 => (v_4 = (9 : Int32) → W_X18_skip_30 D d Q K0 r0 h_2) ∧ (¬ v_4 = (9 : Int32) → (v_4 = (10 : Int32) → W_X18_skip_30 D d Q K0 r0 h_2) ∧ (¬ v_4 = (10 : Int32) → (v_4 = (13 : Int32) → W_X18_skip_30 D d Q K0 r0 h_2) ∧ (¬ v_4 = (13 : Int32) → (¬ v_4 = (32 : Int32) → (¬ v_4 = (45 : Int32) → W_X18_skip_90 D d Q h_2) ∧ (v_4 = (45 : Int32) → cX18_look D d r0 (1 : Int32) h_2 (pI D h_2 (fun v_12 h_10 => (¬ v_12 = (45 : Int32) → W_X18_skip_90 D d Q h_10) ∧ (v_12 = (45 : Int32) → ∃ n, L_X18_skip_59 D d Q K0 n r0 h_10)) (jth Q)))) ∧ (v_4 = (32 : Int32) → W_X18_skip_30 D d Q K0 r0 h_2))))) (jth Q)))
theorem w_X18_skip_0 {D : JD} {d : Nat} {Q : JO → JH → Prop} {K0 : Nat → JH → Prop} {r0 : Nat} {h : JH} (hK0 : ∀ (r0 : Nat) (h : JH), K0 r0 h → JW D (d + 1) mX18_skip 0 [some (vR 15 r0), none] [] h Q) (w : W_X18_skip_0 D d Q K0 r0 h) : JW D (d + 1) mX18_skip 0 [some (vR 15 r0), none] [] h Q := by
  unfold W_X18_skip_0 at w
  refine jw_aload_n (pc' := 1) rfl rfl ?_
  refine jw_iconst (pc' := 2) (x := (0 : Int32)) rfl rfl ?_
  obtain ⟨g_1, w⟩ := w
  refine jw_cI (st := []) (sa := [vR 15 r0, vI (0 : Int32)]) okX18_look rfl rfl rfl rfl rfl rfl (jstp_virtual (sa := [vI (0 : Int32)]) (st := []) (k := 0) rfl rfl sX18_look okX18_look g_1 (one15.k g_1) rfl rfl) w (fun v_4 h_2 _ _ w => ?_)
  refine jw_istore_n (pc' := 6) (ls' := [some (vR 15 r0), some (vI v_4)]) rfl (by decide) rfl ?_
  refine jw_iload_n (pc' := 7) rfl rfl ?_
  refine jw_bipush (pc' := 9) (x := (9 : Int32)) rfl rfl ?_
  refine jw_icmp_eq (tgt := 30) (pc' := 12) rfl rfl (fun c_5 => ?_) (fun c_5 => ?_)
  · replace w := w.1 c_5
    refine jw_gen (ls' := [some (vR 15 r0), none]) (st' := []) (And.intro (Or.inl rfl) (trivial)) (trivial) ?_
    exact w_X18_skip_30 hK0 w
  · replace w := w.2 c_5
    refine jw_iload_n (pc' := 13) rfl rfl ?_
    refine jw_bipush (pc' := 15) (x := (10 : Int32)) rfl rfl ?_
    refine jw_icmp_eq (tgt := 30) (pc' := 18) rfl rfl (fun c_6 => ?_) (fun c_6 => ?_)
    · replace w := w.1 c_6
      refine jw_gen (ls' := [some (vR 15 r0), none]) (st' := []) (And.intro (Or.inl rfl) (trivial)) (trivial) ?_
      exact w_X18_skip_30 hK0 w
    · replace w := w.2 c_6
      refine jw_iload_n (pc' := 19) rfl rfl ?_
      refine jw_bipush (pc' := 21) (x := (13 : Int32)) rfl rfl ?_
      refine jw_icmp_eq (tgt := 30) (pc' := 24) rfl rfl (fun c_7 => ?_) (fun c_7 => ?_)
      · replace w := w.1 c_7
        refine jw_gen (ls' := [some (vR 15 r0), none]) (st' := []) (And.intro (Or.inl rfl) (trivial)) (trivial) ?_
        exact w_X18_skip_30 hK0 w
      · replace w := w.2 c_7
        refine jw_iload_n (pc' := 25) rfl rfl ?_
        refine jw_bipush (pc' := 27) (x := (32 : Int32)) rfl rfl ?_
        refine jw_icmp_ne (tgt := 43) (pc' := 30) rfl rfl (fun c_8 => ?_) (fun c_8 => ?_)
        · replace w := w.1 c_8
          refine jw_iload_n (pc' := 44) rfl rfl ?_
          refine jw_bipush (pc' := 46) (x := (45 : Int32)) rfl rfl ?_
          refine jw_icmp_ne (tgt := 90) (pc' := 49) rfl rfl (fun c_9 => ?_) (fun c_9 => ?_)
          · replace w := w.1 c_9
            refine jw_gen (ls' := [none, none]) (st' := []) (trivial) (trivial) ?_
            exact w_X18_skip_90 w
          · replace w := w.2 c_9
            refine jw_aload_n (pc' := 50) rfl rfl ?_
            refine jw_iconst (pc' := 51) (x := (1 : Int32)) rfl rfl ?_
            refine jw_cI (st := []) (sa := [vR 15 r0, vI (1 : Int32)]) okX18_look rfl rfl rfl rfl rfl rfl (jstp_virtual (sa := [vI (1 : Int32)]) (st := []) (k := 0) rfl rfl sX18_look okX18_look g_1 (one15.k g_1) rfl rfl) w (fun v_12 h_10 _ _ w => ?_)
            refine jw_bipush (pc' := 56) (x := (45 : Int32)) rfl rfl ?_
            refine jw_icmp_ne (tgt := 90) (pc' := 59) rfl rfl (fun c_13 => ?_) (fun c_13 => ?_)
            · replace w := w.1 c_13
              refine jw_gen (ls' := [none, none]) (st' := []) (trivial) (trivial) ?_
              exact w_X18_skip_90 w
            · replace w := w.2 c_13
              refine jw_gen (ls' := [some (vR 15 r0), none]) (st' := []) (And.intro (Or.inl rfl) (trivial)) (trivial) ?_
              obtain ⟨n, w⟩ := w
              exact l_X18_skip_59 hK0 n _ _ w
        · replace w := w.2 c_8
          refine jw_gen (ls' := [some (vR 15 r0), none]) (st' := []) (And.intro (Or.inl rfl) (trivial)) (trivial) ?_
          exact w_X18_skip_30 hK0 w
def L_X18_skip_0 (D : JD) (d : Nat) (Q : JO → JH → Prop) : Nat → Nat → JH → Prop
  | 0 => fun _ _ => False
  | n + 1 => fun r0 h => W_X18_skip_0 D d Q (L_X18_skip_0 D d Q n) r0 h
theorem l_X18_skip_0 {D : JD} {d : Nat} {Q : JO → JH → Prop} : ∀ (n : Nat) (r0 : Nat) (h : JH), L_X18_skip_0 D d Q n r0 h → JW D (d + 1) mX18_skip 0 [some (vR 15 r0), none] [] h Q := by
  intro n
  induction n with
  | zero => intro _ _ w; exact w.elim
  | succ n ih => intro _ h w; exact w_X18_skip_0 ih w
def T_X18_skip (D : JD) (d : Nat) (Q : JO → JH → Prop) (r0 : Nat) (h : JH) : Prop := ∃ n, L_X18_skip_0 D d Q n r0 h
theorem t_X18_skip {D : JD} {d : Nat} {Q : JO → JH → Prop} {r0 : Nat} {h : JH} (w : T_X18_skip D d Q r0 h) : cX18_skip D (d + 1) r0 h Q := by
  unfold T_X18_skip at w
  unfold cX18_skip
  obtain ⟨n, w⟩ := w
  exact l_X18_skip_0 n _ _ w
def W_X18_look_32 (D : JD) (d : Nat) (Q : JO → JH → Prop) (s0 : Int32) (h : JH) : Prop :=
  Q (.inl (some (vI s0))) h
theorem w_X18_look_32 {D : JD} {d : Nat} {Q : JO → JH → Prop} {s0 : Int32} {h : JH} (w : W_X18_look_32 D d Q s0 h) : JW D (d + 1) mX18_look 32 [none, none] [vI s0] h Q := by
  unfold W_X18_look_32 at w
  exact jw_ireturn rfl rfl (rfl) w
def W_X18_look_0 (D : JD) (d : Nat) (Q : JO → JH → Prop) (r0 : Nat) (x1 : Int32) (h : JH) : Prop :=
  r0 ≠ 0 ∧ (((jfi h 84 r0) ≤ ((jfi h 85 r0) + x1) → W_X18_look_32 D d Q (-1 : Int32) h) ∧ (¬ (jfi h 84 r0) ≤ ((jfi h 85 r0) + x1) → (jfr h 83 r0) ≠ 0 ∧ jin ((jfi h 85 r0) + x1) (jln h (jfr h 83 r0)) ∧ (W_X18_look_32 D d Q ((jai h (jfr h 83 r0) (ixn ((jfi h 85 r0) + x1))) &&& (255 : Int32)) h)))
theorem w_X18_look_0 {D : JD} {d : Nat} {Q : JO → JH → Prop} {r0 : Nat} {x1 : Int32} {h : JH} (w : W_X18_look_0 D d Q r0 x1 h) : JW D (d + 1) mX18_look 0 [some (vR 15 r0), some (vI x1)] [] h Q := by
  unfold W_X18_look_0 at w
  refine jw_aload_n (pc' := 1) rfl rfl ?_
  obtain ⟨g_1, w⟩ := w
  refine jw_getI (pc' := 4) (F := 85) rfl rfl rfl rfl g_1 ?_
  refine jw_iload_n (pc' := 5) rfl rfl ?_
  refine jw_iadd (pc' := 6) rfl ?_
  refine jw_aload_n (pc' := 7) rfl rfl ?_
  refine jw_getI (pc' := 10) (F := 84) rfl rfl rfl rfl g_1 ?_
  refine jw_icmp_ge (tgt := 31) (pc' := 13) rfl rfl (fun c_2 => ?_) (fun c_2 => ?_)
  · replace w := w.1 c_2
    refine jw_iconst (pc' := 32) (x := (-1 : Int32)) rfl rfl ?_
    refine jw_gen (ls' := [none, none]) (st' := [vI (-1 : Int32)]) (trivial) (And.intro (Or.inl rfl) (trivial)) ?_
    exact w_X18_look_32 w
  · replace w := w.2 c_2
    refine jw_aload_n (pc' := 14) rfl rfl ?_
    refine jw_getR (pc' := 17) (F := 83) (t' := 65) rfl rfl rfl rfl rfl g_1 ?_
    refine jw_aload_n (pc' := 18) rfl rfl ?_
    refine jw_getI (pc' := 21) (F := 85) rfl rfl rfl rfl g_1 ?_
    refine jw_iload_n (pc' := 22) rfl rfl ?_
    refine jw_iadd (pc' := 23) rfl ?_
    obtain ⟨g_3, w⟩ := w
    obtain ⟨g_4, w⟩ := w
    refine jw_bald (pc' := 24) rfl rfl rfl rfl g_3 g_4.ix g_4.2 ?_
    refine jw_sipush (pc' := 27) (x := (255 : Int32)) rfl rfl ?_
    refine jw_iand (pc' := 28) rfl ?_
    refine jw_goto (pc' := 32) rfl rfl ?_
    refine jw_gen (ls' := [none, none]) (st' := [vI ((jai h (jfr h 83 r0) (ixn ((jfi h 85 r0) + x1))) &&& (255 : Int32))]) (trivial) (And.intro (Or.inl rfl) (trivial)) ?_
    exact w_X18_look_32 w
def T_X18_look (D : JD) (d : Nat) (Q : JO → JH → Prop) (r0 : Nat) (x1 : Int32) (h : JH) : Prop := W_X18_look_0 D d Q r0 x1 h
theorem t_X18_look {D : JD} {d : Nat} {Q : JO → JH → Prop} {r0 : Nat} {x1 : Int32} {h : JH} (w : T_X18_look D d Q r0 x1 h) : cX18_look D (d + 1) r0 x1 h Q := by
  unfold T_X18_look at w
  unfold cX18_look
  exact w_X18_look_0 w
def W_X18_letter_35 (D : JD) (d : Nat) (Q : JO → JH → Prop) (s0 : Int32) (h : JH) : Prop :=
  jbo s0 ∧ (Q (.inl (some (vI s0))) h)
theorem w_X18_letter_35 {D : JD} {d : Nat} {Q : JO → JH → Prop} {s0 : Int32} {h : JH} (w : W_X18_letter_35 D d Q s0 h) : JW D (d + 1) mX18_letter 35 [none] [vI s0] h Q := by
  unfold W_X18_letter_35 at w
  obtain ⟨g_1, w⟩ := w
  exact jw_ireturn rfl rfl (g_1.nr) w
def W_X18_letter_30 (D : JD) (d : Nat) (Q : JO → JH → Prop) (h : JH) : Prop :=
  W_X18_letter_35 D d Q (1 : Int32) h
theorem w_X18_letter_30 {D : JD} {d : Nat} {Q : JO → JH → Prop} {h : JH} (w : W_X18_letter_30 D d Q h) : JW D (d + 1) mX18_letter 30 [none] [] h Q := by
  unfold W_X18_letter_30 at w
  refine jw_iconst (pc' := 31) (x := (1 : Int32)) rfl rfl ?_
  refine jw_goto (pc' := 35) rfl rfl ?_
  exact w_X18_letter_35 w
def W_X18_letter_24 (D : JD) (d : Nat) (Q : JO → JH → Prop) (x0 : Int32) (h : JH) : Prop :=
  (¬ x0 = (95 : Int32) → W_X18_letter_35 D d Q (0 : Int32) h) ∧ (x0 = (95 : Int32) → W_X18_letter_30 D d Q h)
theorem w_X18_letter_24 {D : JD} {d : Nat} {Q : JO → JH → Prop} {x0 : Int32} {h : JH} (w : W_X18_letter_24 D d Q x0 h) : JW D (d + 1) mX18_letter 24 [some (vI x0)] [] h Q := by
  unfold W_X18_letter_24 at w
  refine jw_iload_n (pc' := 25) rfl rfl ?_
  refine jw_bipush (pc' := 27) (x := (95 : Int32)) rfl rfl ?_
  refine jw_icmp_ne (tgt := 34) (pc' := 30) rfl rfl (fun c_1 => ?_) (fun c_1 => ?_)
  · replace w := w.1 c_1
    refine jw_iconst (pc' := 35) (x := (0 : Int32)) rfl rfl ?_
    refine jw_gen (ls' := [none]) (st' := [vI (0 : Int32)]) (trivial) (And.intro (Or.inl rfl) (trivial)) ?_
    exact w_X18_letter_35 w
  · replace w := w.2 c_1
    refine jw_gen (ls' := [none]) (st' := []) (trivial) (trivial) ?_
    exact w_X18_letter_30 w
def W_X18_letter_12 (D : JD) (d : Nat) (Q : JO → JH → Prop) (x0 : Int32) (h : JH) : Prop :=
  (x0 < (65 : Int32) → W_X18_letter_24 D d Q x0 h) ∧ (¬ x0 < (65 : Int32) → (x0 ≤ (90 : Int32) → W_X18_letter_30 D d Q h) ∧ (¬ x0 ≤ (90 : Int32) → W_X18_letter_24 D d Q x0 h))
theorem w_X18_letter_12 {D : JD} {d : Nat} {Q : JO → JH → Prop} {x0 : Int32} {h : JH} (w : W_X18_letter_12 D d Q x0 h) : JW D (d + 1) mX18_letter 12 [some (vI x0)] [] h Q := by
  unfold W_X18_letter_12 at w
  refine jw_iload_n (pc' := 13) rfl rfl ?_
  refine jw_bipush (pc' := 15) (x := (65 : Int32)) rfl rfl ?_
  refine jw_icmp_lt (tgt := 24) (pc' := 18) rfl rfl (fun c_1 => ?_) (fun c_1 => ?_)
  · replace w := w.1 c_1
    exact w_X18_letter_24 w
  · replace w := w.2 c_1
    refine jw_iload_n (pc' := 19) rfl rfl ?_
    refine jw_bipush (pc' := 21) (x := (90 : Int32)) rfl rfl ?_
    refine jw_icmp_le (tgt := 30) (pc' := 24) rfl rfl (fun c_2 => ?_) (fun c_2 => ?_)
    · replace w := w.1 c_2
      refine jw_gen (ls' := [none]) (st' := []) (trivial) (trivial) ?_
      exact w_X18_letter_30 w
    · replace w := w.2 c_2
      exact w_X18_letter_24 w
def W_X18_letter_0 (D : JD) (d : Nat) (Q : JO → JH → Prop) (x0 : Int32) (h : JH) : Prop :=
  (x0 < (97 : Int32) → W_X18_letter_12 D d Q x0 h) ∧ (¬ x0 < (97 : Int32) → (x0 ≤ (122 : Int32) → W_X18_letter_30 D d Q h) ∧ (¬ x0 ≤ (122 : Int32) → W_X18_letter_12 D d Q x0 h))
theorem w_X18_letter_0 {D : JD} {d : Nat} {Q : JO → JH → Prop} {x0 : Int32} {h : JH} (w : W_X18_letter_0 D d Q x0 h) : JW D (d + 1) mX18_letter 0 [some (vI x0)] [] h Q := by
  unfold W_X18_letter_0 at w
  refine jw_iload_n (pc' := 1) rfl rfl ?_
  refine jw_bipush (pc' := 3) (x := (97 : Int32)) rfl rfl ?_
  refine jw_icmp_lt (tgt := 12) (pc' := 6) rfl rfl (fun c_1 => ?_) (fun c_1 => ?_)
  · replace w := w.1 c_1
    exact w_X18_letter_12 w
  · replace w := w.2 c_1
    refine jw_iload_n (pc' := 7) rfl rfl ?_
    refine jw_bipush (pc' := 9) (x := (122 : Int32)) rfl rfl ?_
    refine jw_icmp_le (tgt := 30) (pc' := 12) rfl rfl (fun c_2 => ?_) (fun c_2 => ?_)
    · replace w := w.1 c_2
      refine jw_gen (ls' := [none]) (st' := []) (trivial) (trivial) ?_
      exact w_X18_letter_30 w
    · replace w := w.2 c_2
      exact w_X18_letter_12 w
def T_X18_letter (D : JD) (d : Nat) (Q : JO → JH → Prop) (x0 : Int32) (h : JH) : Prop := W_X18_letter_0 D d Q x0 h
theorem t_X18_letter {D : JD} {d : Nat} {Q : JO → JH → Prop} {x0 : Int32} {h : JH} (w : T_X18_letter D d Q x0 h) : cX18_letter D (d + 1) x0 h Q := by
  unfold T_X18_letter at w
  unfold cX18_letter
  exact w_X18_letter_0 w
def W_X18_word_57 (D : JD) (d : Nat) (Q : JO → JH → Prop) (K8 : Nat → Nat → JH → Prop) (r0 : Nat) (r1 : Nat) (q0 : Nat) (s1 : Int32) (h : JH) : Prop :=
  q0 ≠ 0 ∧ (cJ13_append D d q0 ((Int32.toUInt32 s1 % 65536).toInt32) h (pR D h 11 (fun v_4 h_2 => r0 ≠ 0 ∧ (∀ h_6 : JH, h_6 = wfi h_2 85 r0 ((jfi h_2 85 r0) + (1 : Int32)) → (K8 r0 r1 h_6))) (jth Q)))
theorem w_X18_word_57 {D : JD} {d : Nat} {Q : JO → JH → Prop} {K8 : Nat → Nat → JH → Prop} {r0 : Nat} {r1 : Nat} {q0 : Nat} {s1 : Int32} {h : JH} (hK8 : ∀ (r0 : Nat) (r1 : Nat) (h : JH), K8 r0 r1 h → JW D (d + 1) mX18_word 8 [some (vR 15 r0), some (vR 11 r1), none] [] h Q) (w : W_X18_word_57 D d Q K8 r0 r1 q0 s1 h) : JW D (d + 1) mX18_word 57 [some (vR 15 r0), some (vR 11 r1), none] [vI s1, vR 11 q0] h Q := by
  unfold W_X18_word_57 at w
  refine jw_i2c (pc' := 58) rfl ?_
  obtain ⟨g_1, w⟩ := w
  refine jw_cR (st := []) (sa := [vR 11 q0, vI ((Int32.toUInt32 s1 % 65536).toInt32)]) okJ13_append rfl rfl rfl rfl rfl rfl (jstp_virtual (sa := [vI ((Int32.toUInt32 s1 % 65536).toInt32)]) (st := []) (k := 0) rfl rfl sJ13_append okJ13_append g_1 (one11.k g_1) rfl rfl) w (fun v_4 h_2 _ _ _ w => ?_)
  refine jw_pop (pc' := 62) rfl rfl ?_
  refine jw_aload_n (pc' := 63) rfl rfl ?_
  refine jw_dup (pc' := 64) rfl rfl ?_
  obtain ⟨g_5, w⟩ := w
  refine jw_getI (pc' := 67) (F := 85) rfl rfl rfl rfl g_5 ?_
  refine jw_iconst (pc' := 68) (x := (1 : Int32)) rfl rfl ?_
  refine jw_iadd (pc' := 69) rfl ?_
  refine jw_putI' (pc' := 72) (F := 85) rfl rfl rfl (Or.inr rfl) (Or.inl rfl) rfl (rfl) (rfl) rfl g_5 (fun h_6 e_7 => ?_)
  replace w := w h_6 e_7
  refine jw_goto (pc' := 8) rfl rfl ?_
  exact hK8 _ _ _ w
def W_X18_word_56 (D : JD) (d : Nat) (Q : JO → JH → Prop) (K8 : Nat → Nat → JH → Prop) (r0 : Nat) (r1 : Nat) (x2 : Int32) (q0 : Nat) (h : JH) : Prop :=
  W_X18_word_57 D d Q K8 r0 r1 q0 x2 h
theorem w_X18_word_56 {D : JD} {d : Nat} {Q : JO → JH → Prop} {K8 : Nat → Nat → JH → Prop} {r0 : Nat} {r1 : Nat} {x2 : Int32} {q0 : Nat} {h : JH} (hK8 : ∀ (r0 : Nat) (r1 : Nat) (h : JH), K8 r0 r1 h → JW D (d + 1) mX18_word 8 [some (vR 15 r0), some (vR 11 r1), none] [] h Q) (w : W_X18_word_56 D d Q K8 r0 r1 x2 q0 h) : JW D (d + 1) mX18_word 56 [some (vR 15 r0), some (vR 11 r1), some (vI x2)] [vR 11 q0] h Q := by
  unfold W_X18_word_56 at w
  refine jw_iload_n (pc' := 57) rfl rfl ?_
  refine jw_gen (ls' := [some (vR 15 r0), some (vR 11 r1), none]) (st' := [vI x2, vR 11 q0]) (And.intro (Or.inl rfl) (And.intro (Or.inl rfl) (trivial))) (And.intro (Or.inl rfl) (And.intro (Or.inl rfl) (trivial))) ?_
  exact w_X18_word_57 hK8 w
def W_X18_word_30 (D : JD) (d : Nat) (Q : JO → JH → Prop) (K8 : Nat → Nat → JH → Prop) (r0 : Nat) (r1 : Nat) (h : JH) : Prop :=
  r0 ≠ 0 ∧ (cX18_look D d r0 (0 : Int32) h (pI D h (fun v_4 h_2 => (v_4 < (65 : Int32) → W_X18_word_56 D d Q K8 r0 r1 v_4 r1 h_2) ∧ (¬ v_4 < (65 : Int32) → ((90 : Int32) < v_4 → W_X18_word_56 D d Q K8 r0 r1 v_4 r1 h_2) ∧ (¬ (90 : Int32) < v_4 → W_X18_word_57 D d Q K8 r0 r1 r1 (v_4 + (32 : Int32)) h_2))) (jth Q)))
theorem w_X18_word_30 {D : JD} {d : Nat} {Q : JO → JH → Prop} {K8 : Nat → Nat → JH → Prop} {r0 : Nat} {r1 : Nat} {h : JH} (hK8 : ∀ (r0 : Nat) (r1 : Nat) (h : JH), K8 r0 r1 h → JW D (d + 1) mX18_word 8 [some (vR 15 r0), some (vR 11 r1), none] [] h Q) (w : W_X18_word_30 D d Q K8 r0 r1 h) : JW D (d + 1) mX18_word 30 [some (vR 15 r0), some (vR 11 r1), none] [] h Q := by
  unfold W_X18_word_30 at w
  refine jw_aload_n (pc' := 31) rfl rfl ?_
  refine jw_iconst (pc' := 32) (x := (0 : Int32)) rfl rfl ?_
  obtain ⟨g_1, w⟩ := w
  refine jw_cI (st := []) (sa := [vR 15 r0, vI (0 : Int32)]) okX18_look rfl rfl rfl rfl rfl rfl (jstp_virtual (sa := [vI (0 : Int32)]) (st := []) (k := 0) rfl rfl sX18_look okX18_look g_1 (one15.k g_1) rfl rfl) w (fun v_4 h_2 _ _ w => ?_)
  refine jw_istore_n (pc' := 36) (ls' := [some (vR 15 r0), some (vR 11 r1), some (vI v_4)]) rfl (by decide) rfl ?_
  refine jw_aload_n (pc' := 37) rfl rfl ?_
  refine jw_iload_n (pc' := 38) rfl rfl ?_
  refine jw_bipush (pc' := 40) (x := (65 : Int32)) rfl rfl ?_
  refine jw_icmp_lt (tgt := 56) (pc' := 43) rfl rfl (fun c_5 => ?_) (fun c_5 => ?_)
  · replace w := w.1 c_5
    exact w_X18_word_56 hK8 w
  · replace w := w.2 c_5
    refine jw_iload_n (pc' := 44) rfl rfl ?_
    refine jw_bipush (pc' := 46) (x := (90 : Int32)) rfl rfl ?_
    refine jw_icmp_gt (tgt := 56) (pc' := 49) rfl rfl (fun c_6 => ?_) (fun c_6 => ?_)
    · replace w := w.1 c_6
      exact w_X18_word_56 hK8 w
    · replace w := w.2 c_6
      refine jw_iload_n (pc' := 50) rfl rfl ?_
      refine jw_bipush (pc' := 52) (x := (32 : Int32)) rfl rfl ?_
      refine jw_iadd (pc' := 53) rfl ?_
      refine jw_goto (pc' := 57) rfl rfl ?_
      refine jw_gen (ls' := [some (vR 15 r0), some (vR 11 r1), none]) (st' := [vI (v_4 + (32 : Int32)), vR 11 r1]) (And.intro (Or.inl rfl) (And.intro (Or.inl rfl) (trivial))) (And.intro (Or.inl rfl) (And.intro (Or.inl rfl) (trivial))) ?_
      exact w_X18_word_57 hK8 w
def W_X18_word_8 (D : JD) (d : Nat) (Q : JO → JH → Prop) (K8 : Nat → Nat → JH → Prop) (r0 : Nat) (r1 : Nat) (h : JH) : Prop :=
  r0 ≠ 0 ∧ (cX18_look D d r0 (0 : Int32) h (pI D h (fun v_4 h_2 => cX18_letter D d v_4 h_2 (pI D h_2 (fun v_7 h_5 => (¬ v_7 = 0 → W_X18_word_30 D d Q K8 r0 r1 h_5) ∧ (v_7 = 0 → cX18_look D d r0 (0 : Int32) h_5 (pI D h_5 (fun v_11 h_9 => cX18_digit D d v_11 h_9 (pI D h_9 (fun v_14 h_12 => (v_14 = 0 → ∀ h_16 : JH, h_16 = wfr h_12 86 r0 (jcs D 351) → (r1 ≠ 0 ∧ (cJ13_toString D d r1 h_16 (pR D h_16 64 (fun v_21 h_19 => ∀ h_22 : JH, h_22 = wfr h_19 88 r0 v_21 → ((jfr h_22 88 r0) ≠ 0 ∧ (cJ5_length D d (jfr h_22 88 r0) h_22 (pI D h_22 (fun v_27 h_25 => (v_27 ≤ (20 : Int32) → Q (.inl none) h_25) ∧ (¬ v_27 ≤ (20 : Int32) → cX18_broken D d r0 h_25 (pR D h_25 9 (fun v_31 h_29 => v_31 ≠ 0 ∧ (Q (.inr v_31) h_29)) (jth Q)))) (jth Q))))) (jth Q))))) ∧ (¬ v_14 = 0 → W_X18_word_30 D d Q K8 r0 r1 h_12)) (jth Q))) (jth Q)))) (jth Q))) (jth Q)))
theorem w_X18_word_8 {D : JD} {d : Nat} {Q : JO → JH → Prop} {K8 : Nat → Nat → JH → Prop} {r0 : Nat} {r1 : Nat} {h : JH} (hK8 : ∀ (r0 : Nat) (r1 : Nat) (h : JH), K8 r0 r1 h → JW D (d + 1) mX18_word 8 [some (vR 15 r0), some (vR 11 r1), none] [] h Q) (w : W_X18_word_8 D d Q K8 r0 r1 h) : JW D (d + 1) mX18_word 8 [some (vR 15 r0), some (vR 11 r1), none] [] h Q := by
  unfold W_X18_word_8 at w
  refine jw_aload_n (pc' := 9) rfl rfl ?_
  refine jw_iconst (pc' := 10) (x := (0 : Int32)) rfl rfl ?_
  obtain ⟨g_1, w⟩ := w
  refine jw_cI (st := []) (sa := [vR 15 r0, vI (0 : Int32)]) okX18_look rfl rfl rfl rfl rfl rfl (jstp_virtual (sa := [vI (0 : Int32)]) (st := []) (k := 0) rfl rfl sX18_look okX18_look g_1 (one15.k g_1) rfl rfl) w (fun v_4 h_2 _ _ w => ?_)
  refine jw_cI (st := []) (sa := [vI v_4]) okX18_letter rfl rfl rfl rfl rfl rfl (jstp_static (sa := [vI v_4]) (st := []) rfl rfl sX18_letter okX18_letter rfl rfl) w (fun v_7 h_5 _ _ w => ?_)
  refine jw_if_ne (tgt := 30) (pc' := 19) rfl rfl (fun c_8 => ?_) (fun c_8 => ?_)
  · replace w := w.1 c_8
    exact w_X18_word_30 hK8 w
  · replace w := w.2 c_8
    refine jw_aload_n (pc' := 20) rfl rfl ?_
    refine jw_iconst (pc' := 21) (x := (0 : Int32)) rfl rfl ?_
    refine jw_cI (st := []) (sa := [vR 15 r0, vI (0 : Int32)]) okX18_look rfl rfl rfl rfl rfl rfl (jstp_virtual (sa := [vI (0 : Int32)]) (st := []) (k := 0) rfl rfl sX18_look okX18_look g_1 (one15.k g_1) rfl rfl) w (fun v_11 h_9 _ _ w => ?_)
    refine jw_cI (st := []) (sa := [vI v_11]) okX18_digit rfl rfl rfl rfl rfl rfl (jstp_static (sa := [vI v_11]) (st := []) rfl rfl sX18_digit okX18_digit rfl rfl) w (fun v_14 h_12 _ _ w => ?_)
    refine jw_if_eq (tgt := 75) (pc' := 30) rfl rfl (fun c_15 => ?_) (fun c_15 => ?_)
    · replace w := w.1 c_15
      refine jw_aload_n (pc' := 76) rfl rfl ?_
      refine jw_getsR (pc' := 79) rfl rfl rfl rfl ?_
      refine jw_putR' (pc' := 82) (F := 86) rfl rfl rfl (Or.inr rfl) (Or.inl rfl) rfl rfl rfl g_1 (fun h_16 e_17 => ?_)
      replace w := w h_16 e_17
      refine jw_aload_n (pc' := 83) rfl rfl ?_
      refine jw_aload_n (pc' := 84) rfl rfl ?_
      obtain ⟨g_18, w⟩ := w
      refine jw_cR (st := [vR 15 r0]) (sa := [vR 11 r1]) okJ13_toString rfl rfl rfl rfl rfl rfl (jstp_virtual (sa := []) (st := [vR 15 r0]) (k := 0) rfl rfl sJ13_toString okJ13_toString g_18 (one11.k g_18) rfl rfl) w (fun v_21 h_19 _ _ _ w => ?_)
      refine jw_putR' (pc' := 90) (F := 88) rfl rfl rfl (Or.inr rfl) (Or.inl rfl) rfl rfl rfl g_1 (fun h_22 e_23 => ?_)
      replace w := w h_22 e_23
      refine jw_aload_n (pc' := 91) rfl rfl ?_
      refine jw_getR (pc' := 94) (F := 88) (t' := 64) rfl rfl rfl rfl rfl g_1 ?_
      obtain ⟨g_24, w⟩ := w
      refine jw_cI (st := []) (sa := [vR 64 (jfr h_22 88 r0)]) okJ5_length rfl rfl rfl rfl rfl rfl (jstp_virtual (sa := []) (st := []) (k := 0) rfl rfl sJ5_length okJ5_length g_24 (one64.k g_24) rfl rfl) w (fun v_27 h_25 _ _ w => ?_)
      refine jw_bipush (pc' := 99) (x := (20 : Int32)) rfl rfl ?_
      refine jw_icmp_le (tgt := 107) (pc' := 102) rfl rfl (fun c_28 => ?_) (fun c_28 => ?_)
      · replace w := w.1 c_28
        exact jw_return rfl rfl w
      · replace w := w.2 c_28
        refine jw_aload_n (pc' := 103) rfl rfl ?_
        refine jw_cR (st := []) (sa := [vR 15 r0]) okX18_broken rfl rfl rfl rfl rfl rfl (jstp_virtual (sa := []) (st := []) (k := 0) rfl rfl sX18_broken okX18_broken g_1 (one15.k g_1) rfl rfl) w (fun v_31 h_29 _ _ _ w => ?_)
        obtain ⟨g_32, w⟩ := w
        exact jw_athrow rfl rfl g_32 w
    · replace w := w.2 c_15
      exact w_X18_word_30 hK8 w
def L_X18_word_8 (D : JD) (d : Nat) (Q : JO → JH → Prop) : Nat → Nat → Nat → JH → Prop
  | 0 => fun _ _ _ => False
  | n + 1 => fun r0 r1 h => W_X18_word_8 D d Q (L_X18_word_8 D d Q n) r0 r1 h
theorem l_X18_word_8 {D : JD} {d : Nat} {Q : JO → JH → Prop} : ∀ (n : Nat) (r0 : Nat) (r1 : Nat) (h : JH), L_X18_word_8 D d Q n r0 r1 h → JW D (d + 1) mX18_word 8 [some (vR 15 r0), some (vR 11 r1), none] [] h Q := by
  intro n
  induction n with
  | zero => intro _ _ _ w; exact w.elim
  | succ n ih => intro _ _ h w; exact w_X18_word_8 ih w
def W_X18_word_0 (D : JD) (d : Nat) (Q : JO → JH → Prop) (r0 : Nat) (h : JH) : Prop :=
  ∀ (r_1 : Nat) (h_2 : JH), r_1 = jsz h + 1 → h_2 = nwo h 11 4 → (cJ13_init D d r_1 h_2 (pV D h_2 (fun h_5 => ∃ n, L_X18_word_8 D d Q n r0 r_1 h_5) (jth Q)))
theorem w_X18_word_0 {D : JD} {d : Nat} {Q : JO → JH → Prop} {r0 : Nat} {h : JH} (w : W_X18_word_0 D d Q r0 h) : JW D (d + 1) mX18_word 0 [some (vR 15 r0), none, none] [] h Q := by
  unfold W_X18_word_0 at w
  refine jw_new' (pc' := 3) (k := 11) (n := 4) rfl rfl rfl rfl rfl rfl rfl (fun r_1 h_2 e_3 e_4 => ?_)
  replace w := w r_1 h_2 e_3 e_4
  refine jw_dup (pc' := 4) rfl rfl ?_
  refine jw_cV (st := [vR 11 r_1]) (sa := [vR 11 r_1]) okJ13_init rfl rfl rfl rfl rfl rfl (jstp_init (sa := []) (st := [vR 11 r_1]) rfl rfl sJ13_init okJ13_init (lw_g (jtb_mem (c := 3) (i := 134) rfl) rfl) (jnz e_3) rfl rfl) w (fun h_5 _ _ w => ?_)
  refine jw_astore_n (pc' := 8) (ls' := [some (vR 15 r0), some (vR 11 r_1), none]) rfl (by decide) rfl ?_
  obtain ⟨n, w⟩ := w
  exact l_X18_word_8 n _ _ _ w
def T_X18_word (D : JD) (d : Nat) (Q : JO → JH → Prop) (r0 : Nat) (h : JH) : Prop := W_X18_word_0 D d Q r0 h
theorem t_X18_word {D : JD} {d : Nat} {Q : JO → JH → Prop} {r0 : Nat} {h : JH} (w : T_X18_word D d Q r0 h) : cX18_word D (d + 1) r0 h Q := by
  unfold T_X18_word at w
  unfold cX18_word
  exact w_X18_word_0 w
def W_X18_digit_17 (D : JD) (d : Nat) (Q : JO → JH → Prop) (s0 : Int32) (h : JH) : Prop :=
  jbo s0 ∧ (Q (.inl (some (vI s0))) h)
theorem w_X18_digit_17 {D : JD} {d : Nat} {Q : JO → JH → Prop} {s0 : Int32} {h : JH} (w : W_X18_digit_17 D d Q s0 h) : JW D (d + 1) mX18_digit 17 [none] [vI s0] h Q := by
  unfold W_X18_digit_17 at w
  obtain ⟨g_1, w⟩ := w
  exact jw_ireturn rfl rfl (g_1.nr) w
def W_X18_digit_16 (D : JD) (d : Nat) (Q : JO → JH → Prop) (h : JH) : Prop :=
  W_X18_digit_17 D d Q (0 : Int32) h
theorem w_X18_digit_16 {D : JD} {d : Nat} {Q : JO → JH → Prop} {h : JH} (w : W_X18_digit_16 D d Q h) : JW D (d + 1) mX18_digit 16 [none] [] h Q := by
  unfold W_X18_digit_16 at w
  refine jw_iconst (pc' := 17) (x := (0 : Int32)) rfl rfl ?_
  exact w_X18_digit_17 w
def W_X18_digit_0 (D : JD) (d : Nat) (Q : JO → JH → Prop) (x0 : Int32) (h : JH) : Prop :=
  (x0 < (48 : Int32) → W_X18_digit_16 D d Q h) ∧ (¬ x0 < (48 : Int32) → ((57 : Int32) < x0 → W_X18_digit_16 D d Q h) ∧ (¬ (57 : Int32) < x0 → W_X18_digit_17 D d Q (1 : Int32) h))
theorem w_X18_digit_0 {D : JD} {d : Nat} {Q : JO → JH → Prop} {x0 : Int32} {h : JH} (w : W_X18_digit_0 D d Q x0 h) : JW D (d + 1) mX18_digit 0 [some (vI x0)] [] h Q := by
  unfold W_X18_digit_0 at w
  refine jw_iload_n (pc' := 1) rfl rfl ?_
  refine jw_bipush (pc' := 3) (x := (48 : Int32)) rfl rfl ?_
  refine jw_icmp_lt (tgt := 16) (pc' := 6) rfl rfl (fun c_1 => ?_) (fun c_1 => ?_)
  · replace w := w.1 c_1
    refine jw_gen (ls' := [none]) (st' := []) (trivial) (trivial) ?_
    exact w_X18_digit_16 w
  · replace w := w.2 c_1
    refine jw_iload_n (pc' := 7) rfl rfl ?_
    refine jw_bipush (pc' := 9) (x := (57 : Int32)) rfl rfl ?_
    refine jw_icmp_gt (tgt := 16) (pc' := 12) rfl rfl (fun c_2 => ?_) (fun c_2 => ?_)
    · replace w := w.1 c_2
      refine jw_gen (ls' := [none]) (st' := []) (trivial) (trivial) ?_
      exact w_X18_digit_16 w
    · replace w := w.2 c_2
      refine jw_iconst (pc' := 13) (x := (1 : Int32)) rfl rfl ?_
      refine jw_goto (pc' := 17) rfl rfl ?_
      refine jw_gen (ls' := [none]) (st' := [vI (1 : Int32)]) (trivial) (And.intro (Or.inl rfl) (trivial)) ?_
      exact w_X18_digit_17 w
def T_X18_digit (D : JD) (d : Nat) (Q : JO → JH → Prop) (x0 : Int32) (h : JH) : Prop := W_X18_digit_0 D d Q x0 h
theorem t_X18_digit {D : JD} {d : Nat} {Q : JO → JH → Prop} {x0 : Int32} {h : JH} (w : T_X18_digit D d Q x0 h) : cX18_digit D (d + 1) x0 h Q := by
  unfold T_X18_digit at w
  unfold cX18_digit
  exact w_X18_digit_0 w
def W_X18_broken_0 (D : JD) (d : Nat) (Q : JO → JH → Prop) (r0 : Nat) (h : JH) : Prop :=
  ∀ (r_1 : Nat) (h_2 : JH), r_1 = jsz h + 1 → h_2 = nwo h 9 8 → (r0 ≠ 0 ∧ (cX16_init D d r_1 (jcs D 11) (((jfi h_2 87 r0) - (jfi h_2 91 r0)) + (1 : Int32)) h_2 (pV D h_2 (fun h_6 => Q (.inl (some (vR 9 r_1))) h_6) (jth Q))))
theorem w_X18_broken_0 {D : JD} {d : Nat} {Q : JO → JH → Prop} {r0 : Nat} {h : JH} (w : W_X18_broken_0 D d Q r0 h) : JW D (d + 1) mX18_broken 0 [some (vR 15 r0)] [] h Q := by
  unfold W_X18_broken_0 at w
  refine jw_new' (pc' := 3) (k := 9) (n := 8) rfl rfl rfl rfl rfl rfl rfl (fun r_1 h_2 e_3 e_4 => ?_)
  replace w := w r_1 h_2 e_3 e_4
  refine jw_dup (pc' := 4) rfl rfl ?_
  refine jw_ldcS (pc' := 6) rfl rfl rfl rfl ?_
  refine jw_aload_n (pc' := 7) rfl rfl ?_
  obtain ⟨g_5, w⟩ := w
  refine jw_getI (pc' := 10) (F := 87) rfl rfl rfl rfl g_5 ?_
  refine jw_aload_n (pc' := 11) rfl rfl ?_
  refine jw_getI (pc' := 14) (F := 91) rfl rfl rfl rfl g_5 ?_
  refine jw_isub (pc' := 15) rfl ?_
  refine jw_iconst (pc' := 16) (x := (1 : Int32)) rfl rfl ?_
  refine jw_iadd (pc' := 17) rfl ?_
  refine jw_cV (st := [vR 9 r_1]) (sa := [vR 9 r_1, vR 51 (jcs D 11), vI (((jfi h_2 87 r0) - (jfi h_2 91 r0)) + (1 : Int32))]) okX16_init rfl rfl rfl rfl rfl rfl (jstp_init (sa := [vR 51 (jcs D 11), vI (((jfi h_2 87 r0) - (jfi h_2 91 r0)) + (1 : Int32))]) (st := [vR 9 r_1]) rfl rfl sX16_init okX16_init (lw_g (jtb_mem (c := 3) (i := 64) rfl) rfl) (jnz e_3) rfl rfl) w (fun h_6 _ _ w => ?_)
  exact jw_areturn rfl rfl rfl rfl rfl w
def T_X18_broken (D : JD) (d : Nat) (Q : JO → JH → Prop) (r0 : Nat) (h : JH) : Prop := W_X18_broken_0 D d Q r0 h
theorem t_X18_broken {D : JD} {d : Nat} {Q : JO → JH → Prop} {r0 : Nat} {h : JH} (w : T_X18_broken D d Q r0 h) : cX18_broken D (d + 1) r0 h Q := by
  unfold T_X18_broken at w
  unfold cX18_broken
  exact w_X18_broken_0 w
def W_X18_number_12 (D : JD) (d : Nat) (Q : JO → JH → Prop) (K12 : Nat → JH → Prop) (r0 : Nat) (h : JH) : Prop :=
  r0 ≠ 0 ∧ (cX18_look D d r0 (0 : Int32) h (pI D h (fun v_4 h_2 => cX18_digit D d v_4 h_2 (pI D h_2 (fun v_7 h_5 => (v_7 = 0 → ((lg_cmp (jfl h_5 89 r0) (9007199254740991 : Int64)) ≤ 0 → Q (.inl none) h_5) ∧ (¬ (lg_cmp (jfl h_5 89 r0) (9007199254740991 : Int64)) ≤ 0 → cX18_broken D d r0 h_5 (pR D h_5 9 (fun v_12 h_10 => v_12 ≠ 0 ∧ (Q (.inr v_12) h_10)) (jth Q)))) ∧ (¬ v_7 = 0 → cX18_look D d r0 (0 : Int32) h_5 (pI D h_5 (fun v_16 h_14 => cJ15_min_2 D d ((((10 : Int64) * (jfl h_5 89 r0)) + (Int32.toInt64 v_16)) - (48 : Int64)) (100000000000000000 : Int64) h_14 (pL D h_14 (fun v_18 h_17 => ∀ h_19 : JH, h_19 = wfl h_17 89 r0 v_18 → (∀ h_21 : JH, h_21 = wfi h_19 85 r0 ((jfi h_19 85 r0) + (1 : Int32)) → (K12 r0 h_21))) (jth Q))) (jth Q)))) (jth Q))) (jth Q)))
theorem w_X18_number_12 {D : JD} {d : Nat} {Q : JO → JH → Prop} {K12 : Nat → JH → Prop} {r0 : Nat} {h : JH} (hK12 : ∀ (r0 : Nat) (h : JH), K12 r0 h → JW D (d + 1) mX18_number 12 [some (vR 15 r0)] [] h Q) (w : W_X18_number_12 D d Q K12 r0 h) : JW D (d + 1) mX18_number 12 [some (vR 15 r0)] [] h Q := by
  unfold W_X18_number_12 at w
  refine jw_aload_n (pc' := 13) rfl rfl ?_
  refine jw_iconst (pc' := 14) (x := (0 : Int32)) rfl rfl ?_
  obtain ⟨g_1, w⟩ := w
  refine jw_cI (st := []) (sa := [vR 15 r0, vI (0 : Int32)]) okX18_look rfl rfl rfl rfl rfl rfl (jstp_virtual (sa := [vI (0 : Int32)]) (st := []) (k := 0) rfl rfl sX18_look okX18_look g_1 (one15.k g_1) rfl rfl) w (fun v_4 h_2 _ _ w => ?_)
  refine jw_cI (st := []) (sa := [vI v_4]) okX18_digit rfl rfl rfl rfl rfl rfl (jstp_static (sa := [vI v_4]) (st := []) rfl rfl sX18_digit okX18_digit rfl rfl) w (fun v_7 h_5 _ _ w => ?_)
  refine jw_if_eq (tgt := 65) (pc' := 23) rfl rfl (fun c_8 => ?_) (fun c_8 => ?_)
  · replace w := w.1 c_8
    refine jw_aload_n (pc' := 66) rfl rfl ?_
    refine jw_getL (pc' := 69) (F := 89) rfl rfl rfl rfl g_1 ?_
    refine jw_ldc2 (pc' := 72) (v := (9007199254740991 : Int64)) rfl rfl ?_
    refine jw_lcmp (pc' := 73) rfl ?_
    refine jw_if_le (tgt := 81) (pc' := 76) rfl rfl (fun c_9 => ?_) (fun c_9 => ?_)
    · replace w := w.1 c_9
      exact jw_return rfl rfl w
    · replace w := w.2 c_9
      refine jw_aload_n (pc' := 77) rfl rfl ?_
      refine jw_cR (st := []) (sa := [vR 15 r0]) okX18_broken rfl rfl rfl rfl rfl rfl (jstp_virtual (sa := []) (st := []) (k := 0) rfl rfl sX18_broken okX18_broken g_1 (one15.k g_1) rfl rfl) w (fun v_12 h_10 _ _ _ w => ?_)
      obtain ⟨g_13, w⟩ := w
      exact jw_athrow rfl rfl g_13 w
  · replace w := w.2 c_8
    refine jw_aload_n (pc' := 24) rfl rfl ?_
    refine jw_ldc2 (pc' := 27) (v := (10 : Int64)) rfl rfl ?_
    refine jw_aload_n (pc' := 28) rfl rfl ?_
    refine jw_getL (pc' := 31) (F := 89) rfl rfl rfl rfl g_1 ?_
    refine jw_lmul (pc' := 32) rfl ?_
    refine jw_aload_n (pc' := 33) rfl rfl ?_
    refine jw_iconst (pc' := 34) (x := (0 : Int32)) rfl rfl ?_
    refine jw_cI (st := [vL ((10 : Int64) * (jfl h_5 89 r0)), vR 15 r0]) (sa := [vR 15 r0, vI (0 : Int32)]) okX18_look rfl rfl rfl rfl rfl rfl (jstp_virtual (sa := [vI (0 : Int32)]) (st := [vL ((10 : Int64) * (jfl h_5 89 r0)), vR 15 r0]) (k := 0) rfl rfl sX18_look okX18_look g_1 (one15.k g_1) rfl rfl) w (fun v_16 h_14 _ _ w => ?_)
    refine jw_i2l (pc' := 38) rfl ?_
    refine jw_ladd (pc' := 39) rfl ?_
    refine jw_ldc2 (pc' := 42) (v := (48 : Int64)) rfl rfl ?_
    refine jw_lsub (pc' := 43) rfl ?_
    refine jw_ldc2 (pc' := 46) (v := (100000000000000000 : Int64)) rfl rfl ?_
    refine jw_cL (st := [vR 15 r0]) (sa := [vL ((((10 : Int64) * (jfl h_5 89 r0)) + (Int32.toInt64 v_16)) - (48 : Int64)), vL (100000000000000000 : Int64)]) okJ15_min_2 rfl rfl rfl rfl rfl rfl (jstp_static (sa := [vL ((((10 : Int64) * (jfl h_5 89 r0)) + (Int32.toInt64 v_16)) - (48 : Int64)), vL (100000000000000000 : Int64)]) (st := [vR 15 r0]) rfl rfl sJ15_min_2 okJ15_min_2 rfl rfl) w (fun v_18 h_17 _ _ w => ?_)
    refine jw_putL' (pc' := 52) (F := 89) rfl rfl rfl (Or.inr rfl) (Or.inl rfl) rfl rfl rfl g_1 (fun h_19 e_20 => ?_)
    replace w := w h_19 e_20
    refine jw_aload_n (pc' := 53) rfl rfl ?_
    refine jw_dup (pc' := 54) rfl rfl ?_
    refine jw_getI (pc' := 57) (F := 85) rfl rfl rfl rfl g_1 ?_
    refine jw_iconst (pc' := 58) (x := (1 : Int32)) rfl rfl ?_
    refine jw_iadd (pc' := 59) rfl ?_
    refine jw_putI' (pc' := 62) (F := 85) rfl rfl rfl (Or.inr rfl) (Or.inl rfl) rfl (rfl) (rfl) rfl g_1 (fun h_21 e_22 => ?_)
    replace w := w h_21 e_22
    refine jw_goto (pc' := 12) rfl rfl ?_
    exact hK12 _ _ w
def L_X18_number_12 (D : JD) (d : Nat) (Q : JO → JH → Prop) : Nat → Nat → JH → Prop
  | 0 => fun _ _ => False
  | n + 1 => fun r0 h => W_X18_number_12 D d Q (L_X18_number_12 D d Q n) r0 h
theorem l_X18_number_12 {D : JD} {d : Nat} {Q : JO → JH → Prop} : ∀ (n : Nat) (r0 : Nat) (h : JH), L_X18_number_12 D d Q n r0 h → JW D (d + 1) mX18_number 12 [some (vR 15 r0)] [] h Q := by
  intro n
  induction n with
  | zero => intro _ _ w; exact w.elim
  | succ n ih => intro _ h w; exact w_X18_number_12 ih w
def W_X18_number_0 (D : JD) (d : Nat) (Q : JO → JH → Prop) (r0 : Nat) (h : JH) : Prop :=
  r0 ≠ 0 ∧ ∀ h_2 : JH, h_2 = wfr h 86 r0 (jcs D 352) → (∀ h_4 : JH, h_4 = wfl h_2 89 r0 (0 : Int64) → (∃ n, L_X18_number_12 D d Q n r0 h_4))
theorem w_X18_number_0 {D : JD} {d : Nat} {Q : JO → JH → Prop} {r0 : Nat} {h : JH} (w : W_X18_number_0 D d Q r0 h) : JW D (d + 1) mX18_number 0 [some (vR 15 r0)] [] h Q := by
  unfold W_X18_number_0 at w
  refine jw_aload_n (pc' := 1) rfl rfl ?_
  refine jw_getsR (pc' := 4) rfl rfl rfl rfl ?_
  obtain ⟨g_1, w⟩ := w
  refine jw_putR' (pc' := 7) (F := 86) rfl rfl rfl (Or.inr rfl) (Or.inl rfl) rfl rfl rfl g_1 (fun h_2 e_3 => ?_)
  replace w := w h_2 e_3
  refine jw_aload_n (pc' := 8) rfl rfl ?_
  refine jw_lconst (pc' := 9) (x := (0 : Int64)) rfl rfl ?_
  refine jw_putL' (pc' := 12) (F := 89) rfl rfl rfl (Or.inr rfl) (Or.inl rfl) rfl rfl rfl g_1 (fun h_4 e_5 => ?_)
  replace w := w h_4 e_5
  obtain ⟨n, w⟩ := w
  exact l_X18_number_12 n _ _ w
def T_X18_number (D : JD) (d : Nat) (Q : JO → JH → Prop) (r0 : Nat) (h : JH) : Prop := W_X18_number_0 D d Q r0 h
theorem t_X18_number {D : JD} {d : Nat} {Q : JO → JH → Prop} {r0 : Nat} {h : JH} (w : T_X18_number D d Q r0 h) : cX18_number D (d + 1) r0 h Q := by
  unfold T_X18_number at w
  unfold cX18_number
  exact w_X18_number_0 w
def W_X18_quoted_45 (D : JD) (d : Nat) (Q : JO → JH → Prop) (r0 : Nat) (h : JH) : Prop :=
  r0 ≠ 0 ∧ (cX18_broken D d r0 h (pR D h 9 (fun v_4 h_2 => v_4 ≠ 0 ∧ (Q (.inr v_4) h_2)) (jth Q)))
theorem w_X18_quoted_45 {D : JD} {d : Nat} {Q : JO → JH → Prop} {r0 : Nat} {h : JH} (w : W_X18_quoted_45 D d Q r0 h) : JW D (d + 1) mX18_quoted 45 [some (vR 15 r0), none, none, none] [] h Q := by
  unfold W_X18_quoted_45 at w
  refine jw_aload_n (pc' := 46) rfl rfl ?_
  obtain ⟨g_1, w⟩ := w
  refine jw_cR (st := []) (sa := [vR 15 r0]) okX18_broken rfl rfl rfl rfl rfl rfl (jstp_virtual (sa := []) (st := []) (k := 0) rfl rfl sX18_broken okX18_broken g_1 (one15.k g_1) rfl rfl) w (fun v_4 h_2 _ _ _ w => ?_)
  obtain ⟨g_5, w⟩ := w
  exact jw_athrow rfl rfl g_5 w
def W_X18_quoted_89 (D : JD) (d : Nat) (Q : JO → JH → Prop) (K27 : Nat → Int32 → Nat → JH → Prop) (r0 : Nat) (x1 : Int32) (r2 : Nat) (x3 : Int32) (h : JH) : Prop :=
  (¬ x1 = (40 : Int32) → r2 ≠ 0 ∧ jin x1 (jln h r2) ∧ ∀ h_4 : JH, h_4 = wai h r2 (ixn x1) ((Int32.toInt8 ((Int32.toInt8 x3).toInt32)).toInt32) → (K27 r0 (x1 + (1 : Int32)) r2 h_4)) ∧ (x1 = (40 : Int32) → r0 ≠ 0 ∧ (cX18_broken D d r0 h (pR D h 9 (fun v_9 h_7 => v_9 ≠ 0 ∧ (Q (.inr v_9) h_7)) (jth Q))))
theorem w_X18_quoted_89 {D : JD} {d : Nat} {Q : JO → JH → Prop} {K27 : Nat → Int32 → Nat → JH → Prop} {r0 : Nat} {x1 : Int32} {r2 : Nat} {x3 : Int32} {h : JH} (hK27 : ∀ (r0 : Nat) (x1 : Int32) (r2 : Nat) (h : JH), K27 r0 x1 r2 h → JW D (d + 1) mX18_quoted 27 [some (vR 15 r0), some (vI x1), some (vR 65 r2), none] [] h Q) (w : W_X18_quoted_89 D d Q K27 r0 x1 r2 x3 h) : JW D (d + 1) mX18_quoted 89 [some (vR 15 r0), some (vI x1), some (vR 65 r2), some (vI x3)] [] h Q := by
  unfold W_X18_quoted_89 at w
  refine jw_iload_n (pc' := 90) rfl rfl ?_
  refine jw_bipush (pc' := 92) (x := (40 : Int32)) rfl rfl ?_
  refine jw_icmp_ne (tgt := 100) (pc' := 95) rfl rfl (fun c_1 => ?_) (fun c_1 => ?_)
  · replace w := w.1 c_1
    refine jw_aload_n (pc' := 101) rfl rfl ?_
    refine jw_iload_n (pc' := 102) rfl rfl ?_
    refine jw_iload_n (pc' := 103) rfl rfl ?_
    refine jw_i2b (pc' := 104) rfl ?_
    obtain ⟨g_2, w⟩ := w
    obtain ⟨g_3, w⟩ := w
    refine jw_bast' (pc' := 105) rfl rfl rfl rfl rfl g_2 g_3 (fun h_4 e_5 => ?_)
    replace w := w h_4 e_5
    refine jw_iinc (pc' := 108) (y := x1 + (1 : Int32)) (ls' := [some (vR 15 r0), some (vI (x1 + (1 : Int32))), some (vR 65 r2), some (vI x3)]) rfl (by decide) rfl rfl rfl ?_
    refine jw_goto (pc' := 27) rfl rfl ?_
    refine jw_gen (ls' := [some (vR 15 r0), some (vI (x1 + (1 : Int32))), some (vR 65 r2), none]) (st' := []) (And.intro (Or.inl rfl) (And.intro (Or.inl rfl) (And.intro (Or.inl rfl) (trivial)))) (trivial) ?_
    exact hK27 _ _ _ _ w
  · replace w := w.2 c_1
    refine jw_aload_n (pc' := 96) rfl rfl ?_
    obtain ⟨g_6, w⟩ := w
    refine jw_cR (st := []) (sa := [vR 15 r0]) okX18_broken rfl rfl rfl rfl rfl rfl (jstp_virtual (sa := []) (st := []) (k := 0) rfl rfl sX18_broken okX18_broken g_6 (one15.k g_6) rfl rfl) w (fun v_9 h_7 _ _ _ w => ?_)
    obtain ⟨g_10, w⟩ := w
    exact jw_athrow rfl rfl g_10 w
def W_X18_quoted_27 (D : JD) (d : Nat) (Q : JO → JH → Prop) (K27 : Nat → Int32 → Nat → JH → Prop) (r0 : Nat) (x1 : Int32) (r2 : Nat) (h : JH) : Prop :=
  r0 ≠ 0 ∧ (cX18_look D d r0 (0 : Int32) h (pI D h (fun v_4 h_2 => (v_4 < (32 : Int32) → W_X18_quoted_45 D d Q r0 h_2) ∧ (¬ v_4 < (32 : Int32) → (v_4 ≤ (126 : Int32) → ∀ h_7 : JH, h_7 = wfi h_2 85 r0 ((jfi h_2 85 r0) + (1 : Int32)) → ((¬ v_4 = (39 : Int32) → W_X18_quoted_89 D d Q K27 r0 x1 r2 v_4 h_7) ∧ (v_4 = (39 : Int32) → cX18_look D d r0 (0 : Int32) h_7 (pI D h_7 (fun v_12 h_10 => (v_12 = (39 : Int32) → ∀ h_14 : JH, h_14 = wfi h_10 85 r0 ((jfi h_10 85 r0) + (1 : Int32)) → (W_X18_quoted_89 D d Q K27 r0 x1 r2 v_4 h_14)) ∧ (¬ v_12 = (39 : Int32) → (jfr h_10 90 r0) ≠ 0 ∧ (cX14_text D d (jfr h_10 90 r0) r2 (0 : Int32) x1 h_10 (pR D h_10 8 (fun v_19 h_17 => Q (.inl none) h_17) (jth Q))))) (jth Q))))) ∧ (¬ v_4 ≤ (126 : Int32) → W_X18_quoted_45 D d Q r0 h_2))) (jth Q)))
theorem w_X18_quoted_27 {D : JD} {d : Nat} {Q : JO → JH → Prop} {K27 : Nat → Int32 → Nat → JH → Prop} {r0 : Nat} {x1 : Int32} {r2 : Nat} {h : JH} (hK27 : ∀ (r0 : Nat) (x1 : Int32) (r2 : Nat) (h : JH), K27 r0 x1 r2 h → JW D (d + 1) mX18_quoted 27 [some (vR 15 r0), some (vI x1), some (vR 65 r2), none] [] h Q) (w : W_X18_quoted_27 D d Q K27 r0 x1 r2 h) : JW D (d + 1) mX18_quoted 27 [some (vR 15 r0), some (vI x1), some (vR 65 r2), none] [] h Q := by
  unfold W_X18_quoted_27 at w
  refine jw_aload_n (pc' := 28) rfl rfl ?_
  refine jw_iconst (pc' := 29) (x := (0 : Int32)) rfl rfl ?_
  obtain ⟨g_1, w⟩ := w
  refine jw_cI (st := []) (sa := [vR 15 r0, vI (0 : Int32)]) okX18_look rfl rfl rfl rfl rfl rfl (jstp_virtual (sa := [vI (0 : Int32)]) (st := []) (k := 0) rfl rfl sX18_look okX18_look g_1 (one15.k g_1) rfl rfl) w (fun v_4 h_2 _ _ w => ?_)
  refine jw_istore_n (pc' := 33) (ls' := [some (vR 15 r0), some (vI x1), some (vR 65 r2), some (vI v_4)]) rfl (by decide) rfl ?_
  refine jw_iload_n (pc' := 34) rfl rfl ?_
  refine jw_bipush (pc' := 36) (x := (32 : Int32)) rfl rfl ?_
  refine jw_icmp_lt (tgt := 45) (pc' := 39) rfl rfl (fun c_5 => ?_) (fun c_5 => ?_)
  · replace w := w.1 c_5
    refine jw_gen (ls' := [some (vR 15 r0), none, none, none]) (st' := []) (And.intro (Or.inl rfl) (trivial)) (trivial) ?_
    exact w_X18_quoted_45 w
  · replace w := w.2 c_5
    refine jw_iload_n (pc' := 40) rfl rfl ?_
    refine jw_bipush (pc' := 42) (x := (126 : Int32)) rfl rfl ?_
    refine jw_icmp_le (tgt := 50) (pc' := 45) rfl rfl (fun c_6 => ?_) (fun c_6 => ?_)
    · replace w := w.1 c_6
      refine jw_aload_n (pc' := 51) rfl rfl ?_
      refine jw_dup (pc' := 52) rfl rfl ?_
      refine jw_getI (pc' := 55) (F := 85) rfl rfl rfl rfl g_1 ?_
      refine jw_iconst (pc' := 56) (x := (1 : Int32)) rfl rfl ?_
      refine jw_iadd (pc' := 57) rfl ?_
      refine jw_putI' (pc' := 60) (F := 85) rfl rfl rfl (Or.inr rfl) (Or.inl rfl) rfl (rfl) (rfl) rfl g_1 (fun h_7 e_8 => ?_)
      replace w := w h_7 e_8
      refine jw_iload_n (pc' := 61) rfl rfl ?_
      refine jw_bipush (pc' := 63) (x := (39 : Int32)) rfl rfl ?_
      refine jw_icmp_ne (tgt := 89) (pc' := 66) rfl rfl (fun c_9 => ?_) (fun c_9 => ?_)
      · replace w := w.1 c_9
        exact w_X18_quoted_89 hK27 w
      · replace w := w.2 c_9
        refine jw_aload_n (pc' := 67) rfl rfl ?_
        refine jw_iconst (pc' := 68) (x := (0 : Int32)) rfl rfl ?_
        refine jw_cI (st := []) (sa := [vR 15 r0, vI (0 : Int32)]) okX18_look rfl rfl rfl rfl rfl rfl (jstp_virtual (sa := [vI (0 : Int32)]) (st := []) (k := 0) rfl rfl sX18_look okX18_look g_1 (one15.k g_1) rfl rfl) w (fun v_12 h_10 _ _ w => ?_)
        refine jw_bipush (pc' := 73) (x := (39 : Int32)) rfl rfl ?_
        refine jw_icmp_eq (tgt := 79) (pc' := 76) rfl rfl (fun c_13 => ?_) (fun c_13 => ?_)
        · replace w := w.1 c_13
          refine jw_aload_n (pc' := 80) rfl rfl ?_
          refine jw_dup (pc' := 81) rfl rfl ?_
          refine jw_getI (pc' := 84) (F := 85) rfl rfl rfl rfl g_1 ?_
          refine jw_iconst (pc' := 85) (x := (1 : Int32)) rfl rfl ?_
          refine jw_iadd (pc' := 86) rfl ?_
          refine jw_putI' (pc' := 89) (F := 85) rfl rfl rfl (Or.inr rfl) (Or.inl rfl) rfl (rfl) (rfl) rfl g_1 (fun h_14 e_15 => ?_)
          replace w := w h_14 e_15
          exact w_X18_quoted_89 hK27 w
        · replace w := w.2 c_13
          refine jw_goto (pc' := 111) rfl rfl ?_
          refine jw_aload_n (pc' := 112) rfl rfl ?_
          refine jw_getR (pc' := 115) (F := 90) (t' := 100) rfl rfl rfl rfl rfl g_1 ?_
          refine jw_aload_n (pc' := 116) rfl rfl ?_
          refine jw_iconst (pc' := 117) (x := (0 : Int32)) rfl rfl ?_
          refine jw_iload_n (pc' := 118) rfl rfl ?_
          obtain ⟨g_16, w⟩ := w
          refine jw_cR (st := []) (sa := [vR 100 (jfr h_10 90 r0), vR 65 r2, vI (0 : Int32), vI x1]) okX14_text rfl rfl rfl rfl rfl rfl (jstp_virtual (sa := [vR 65 r2, vI (0 : Int32), vI x1]) (st := []) (k := 0) rfl rfl sX14_text okX14_text g_16 (one100.k g_16) rfl rfl) w (fun v_19 h_17 _ _ _ w => ?_)
          refine jw_pop (pc' := 122) rfl rfl ?_
          exact jw_return rfl rfl w
    · replace w := w.2 c_6
      refine jw_gen (ls' := [some (vR 15 r0), none, none, none]) (st' := []) (And.intro (Or.inl rfl) (trivial)) (trivial) ?_
      exact w_X18_quoted_45 w
def L_X18_quoted_27 (D : JD) (d : Nat) (Q : JO → JH → Prop) : Nat → Nat → Int32 → Nat → JH → Prop
  | 0 => fun _ _ _ _ => False
  | n + 1 => fun r0 x1 r2 h => W_X18_quoted_27 D d Q (L_X18_quoted_27 D d Q n) r0 x1 r2 h
theorem l_X18_quoted_27 {D : JD} {d : Nat} {Q : JO → JH → Prop} : ∀ (n : Nat) (r0 : Nat) (x1 : Int32) (r2 : Nat) (h : JH), L_X18_quoted_27 D d Q n r0 x1 r2 h → JW D (d + 1) mX18_quoted 27 [some (vR 15 r0), some (vI x1), some (vR 65 r2), none] [] h Q := by
  intro n
  induction n with
  | zero => intro _ _ _ _ w; exact w.elim
  | succ n ih => intro _ _ _ h w; exact w_X18_quoted_27 ih w
def W_X18_quoted_0 (D : JD) (d : Nat) (Q : JO → JH → Prop) (r0 : Nat) (h : JH) : Prop :=
  r0 ≠ 0 ∧ ∀ h_2 : JH, h_2 = wfr h 86 r0 (jcs D 353) → ((jfr h_2 90 r0) ≠ 0 ∧ (cX14_room D d (jfr h_2 90 r0) h_2 (pR D h_2 65 (fun v_7 h_5 => ∀ h_8 : JH, h_8 = wfi h_5 85 r0 ((jfi h_5 85 r0) + (1 : Int32)) → (∃ n, L_X18_quoted_27 D d Q n r0 (0 : Int32) v_7 h_8)) (jth Q))))
theorem w_X18_quoted_0 {D : JD} {d : Nat} {Q : JO → JH → Prop} {r0 : Nat} {h : JH} (w : W_X18_quoted_0 D d Q r0 h) : JW D (d + 1) mX18_quoted 0 [some (vR 15 r0), none, none, none] [] h Q := by
  unfold W_X18_quoted_0 at w
  refine jw_aload_n (pc' := 1) rfl rfl ?_
  refine jw_getsR (pc' := 4) rfl rfl rfl rfl ?_
  obtain ⟨g_1, w⟩ := w
  refine jw_putR' (pc' := 7) (F := 86) rfl rfl rfl (Or.inr rfl) (Or.inl rfl) rfl rfl rfl g_1 (fun h_2 e_3 => ?_)
  replace w := w h_2 e_3
  refine jw_iconst (pc' := 8) (x := (0 : Int32)) rfl rfl ?_
  refine jw_istore_n (pc' := 9) (ls' := [some (vR 15 r0), some (vI (0 : Int32)), none, none]) rfl (by decide) rfl ?_
  refine jw_aload_n (pc' := 10) rfl rfl ?_
  refine jw_getR (pc' := 13) (F := 90) (t' := 100) rfl rfl rfl rfl rfl g_1 ?_
  obtain ⟨g_4, w⟩ := w
  refine jw_cR (st := []) (sa := [vR 100 (jfr h_2 90 r0)]) okX14_room rfl rfl rfl rfl rfl rfl (jstp_virtual (sa := []) (st := []) (k := 0) rfl rfl sX14_room okX14_room g_4 (one100.k g_4) rfl rfl) w (fun v_7 h_5 _ _ _ w => ?_)
  refine jw_astore_n (pc' := 17) (ls' := [some (vR 15 r0), some (vI (0 : Int32)), some (vR 65 v_7), none]) rfl (by decide) rfl ?_
  refine jw_aload_n (pc' := 18) rfl rfl ?_
  refine jw_dup (pc' := 19) rfl rfl ?_
  refine jw_getI (pc' := 22) (F := 85) rfl rfl rfl rfl g_1 ?_
  refine jw_iconst (pc' := 23) (x := (1 : Int32)) rfl rfl ?_
  refine jw_iadd (pc' := 24) rfl ?_
  refine jw_putI' (pc' := 27) (F := 85) rfl rfl rfl (Or.inr rfl) (Or.inl rfl) rfl (rfl) (rfl) rfl g_1 (fun h_8 e_9 => ?_)
  replace w := w h_8 e_9
  obtain ⟨n, w⟩ := w
  exact l_X18_quoted_27 n _ _ _ _ w
def T_X18_quoted (D : JD) (d : Nat) (Q : JO → JH → Prop) (r0 : Nat) (h : JH) : Prop := W_X18_quoted_0 D d Q r0 h
theorem t_X18_quoted {D : JD} {d : Nat} {Q : JO → JH → Prop} {r0 : Nat} {h : JH} (w : T_X18_quoted D d Q r0 h) : cX18_quoted D (d + 1) r0 h Q := by
  unfold T_X18_quoted at w
  unfold cX18_quoted
  exact w_X18_quoted_0 w
def W_X18_sign_311 (D : JD) (d : Nat) (Q : JO → JH → Prop) (r0 : Nat) (h : JH) : Prop :=
  r0 ≠ 0 ∧ ((jfr h 88 r0) ≠ 0 ∧ (cJ5_length D d (jfr h 88 r0) h (pI D h (fun v_5 h_3 => ∀ h_6 : JH, h_6 = wfi h_3 85 r0 ((jfi h 85 r0) + v_5) → (Q (.inl none) h_6)) (jth Q))))
theorem w_X18_sign_311 {D : JD} {d : Nat} {Q : JO → JH → Prop} {r0 : Nat} {h : JH} (w : W_X18_sign_311 D d Q r0 h) : JW D (d + 1) mX18_sign 311 [some (vR 15 r0), none, none] [] h Q := by
  unfold W_X18_sign_311 at w
  refine jw_aload_n (pc' := 312) rfl rfl ?_
  refine jw_dup (pc' := 313) rfl rfl ?_
  obtain ⟨g_1, w⟩ := w
  refine jw_getI (pc' := 316) (F := 85) rfl rfl rfl rfl g_1 ?_
  refine jw_aload_n (pc' := 317) rfl rfl ?_
  refine jw_getR (pc' := 320) (F := 88) (t' := 64) rfl rfl rfl rfl rfl g_1 ?_
  obtain ⟨g_2, w⟩ := w
  refine jw_cI (st := [vI (jfi h 85 r0), vR 15 r0]) (sa := [vR 64 (jfr h 88 r0)]) okJ5_length rfl rfl rfl rfl rfl rfl (jstp_virtual (sa := []) (st := [vI (jfi h 85 r0), vR 15 r0]) (k := 0) rfl rfl sJ5_length okJ5_length g_2 (one64.k g_2) rfl rfl) w (fun v_5 h_3 _ _ w => ?_)
  refine jw_iadd (pc' := 324) rfl ?_
  refine jw_putI' (pc' := 327) (F := 85) rfl rfl rfl (Or.inr rfl) (Or.inl rfl) rfl (rfl) (rfl) rfl g_1 (fun h_6 e_7 => ?_)
  replace w := w h_6 e_7
  exact jw_return rfl rfl w
def W_X18_sign_161 (D : JD) (d : Nat) (Q : JO → JH → Prop) (r0 : Nat) (q0 : Nat) (q1 : Nat) (h : JH) : Prop :=
  q0 ≠ 0 ∧ ∀ h_2 : JH, h_2 = wfr h 88 q0 q1 → (W_X18_sign_311 D d Q r0 h_2)
theorem w_X18_sign_161 {D : JD} {d : Nat} {Q : JO → JH → Prop} {r0 : Nat} {q0 : Nat} {q1 : Nat} {h : JH} (w : W_X18_sign_161 D d Q r0 q0 q1 h) : JW D (d + 1) mX18_sign 161 [some (vR 15 r0), none, none] [vR 51 q1, vR 15 q0] h Q := by
  unfold W_X18_sign_161 at w
  obtain ⟨g_1, w⟩ := w
  refine jw_putR' (pc' := 164) (F := 88) rfl rfl rfl (Or.inr rfl) (Or.inl rfl) rfl rfl rfl g_1 (fun h_2 e_3 => ?_)
  replace w := w h_2 e_3
  refine jw_goto (pc' := 311) rfl rfl ?_
  exact w_X18_sign_311 w
def W_X18_sign_181 (D : JD) (d : Nat) (Q : JO → JH → Prop) (r0 : Nat) (q0 : Nat) (q1 : Nat) (h : JH) : Prop :=
  q0 ≠ 0 ∧ ∀ h_2 : JH, h_2 = wfr h 88 q0 q1 → (W_X18_sign_311 D d Q r0 h_2)
theorem w_X18_sign_181 {D : JD} {d : Nat} {Q : JO → JH → Prop} {r0 : Nat} {q0 : Nat} {q1 : Nat} {h : JH} (w : W_X18_sign_181 D d Q r0 q0 q1 h) : JW D (d + 1) mX18_sign 181 [some (vR 15 r0), none, none] [vR 51 q1, vR 15 q0] h Q := by
  unfold W_X18_sign_181 at w
  obtain ⟨g_1, w⟩ := w
  refine jw_putR' (pc' := 184) (F := 88) rfl rfl rfl (Or.inr rfl) (Or.inl rfl) rfl rfl rfl g_1 (fun h_2 e_3 => ?_)
  replace w := w h_2 e_3
  refine jw_goto (pc' := 311) rfl rfl ?_
  exact w_X18_sign_311 w
def W_X18_sign_0 (D : JD) (d : Nat) (Q : JO → JH → Prop) (r0 : Nat) (x1 : Int32) (h : JH) : Prop :=
  r0 ≠ 0 ∧ ∀ h_2 : JH, h_2 = wfr h 86 r0 (jcs D 355) → (cX18_look D d r0 (1 : Int32) h_2 (pI D h_2 (fun v_6 h_4 => (x1 = (37 : Int32) → ∀ h_8 : JH, h_8 = wfr h_4 88 r0 (jcs D 27) → (W_X18_sign_311 D d Q r0 h_8)) ∧ (x1 = (40 : Int32) → ∀ h_11 : JH, h_11 = wfr h_4 88 r0 (jcs D 18) → (W_X18_sign_311 D d Q r0 h_11)) ∧ (x1 = (41 : Int32) → ∀ h_14 : JH, h_14 = wfr h_4 88 r0 (jcs D 19) → (W_X18_sign_311 D d Q r0 h_14)) ∧ (x1 = (42 : Int32) → ∀ h_17 : JH, h_17 = wfr h_4 88 r0 (jcs D 23) → (W_X18_sign_311 D d Q r0 h_17)) ∧ (x1 = (43 : Int32) → ∀ h_20 : JH, h_20 = wfr h_4 88 r0 (jcs D 24) → (W_X18_sign_311 D d Q r0 h_20)) ∧ (x1 = (44 : Int32) → ∀ h_23 : JH, h_23 = wfr h_4 88 r0 (jcs D 20) → (W_X18_sign_311 D d Q r0 h_23)) ∧ (x1 = (45 : Int32) → ∀ h_26 : JH, h_26 = wfr h_4 88 r0 (jcs D 25) → (W_X18_sign_311 D d Q r0 h_26)) ∧ (x1 = (46 : Int32) → ∀ h_29 : JH, h_29 = wfr h_4 88 r0 (jcs D 22) → (W_X18_sign_311 D d Q r0 h_29)) ∧ (x1 = (47 : Int32) → ∀ h_32 : JH, h_32 = wfr h_4 88 r0 (jcs D 26) → (W_X18_sign_311 D d Q r0 h_32)) ∧ (x1 = (59 : Int32) → ∀ h_35 : JH, h_35 = wfr h_4 88 r0 (jcs D 21) → (W_X18_sign_311 D d Q r0 h_35)) ∧ (x1 = (60 : Int32) → (¬ v_6 = (61 : Int32) → (¬ v_6 = (62 : Int32) → W_X18_sign_161 D d Q r0 r0 (jcs D 14) h_4) ∧ (v_6 = (62 : Int32) → W_X18_sign_161 D d Q r0 r0 (jcs D 13) h_4)) ∧ (v_6 = (61 : Int32) → W_X18_sign_161 D d Q r0 r0 (jcs D 12) h_4)) ∧ (x1 = (61 : Int32) → ∀ h_41 : JH, h_41 = wfr h_4 88 r0 (jcs D 28) → (W_X18_sign_311 D d Q r0 h_41)) ∧ (x1 = (62 : Int32) → (¬ v_6 = (61 : Int32) → W_X18_sign_181 D d Q r0 r0 (jcs D 16) h_4) ∧ (v_6 = (61 : Int32) → W_X18_sign_181 D d Q r0 r0 (jcs D 15) h_4)) ∧ (x1 = (124 : Int32) → (v_6 = (124 : Int32) → ∀ h_47 : JH, h_47 = wfr h_4 88 r0 (jcs D 17) → (W_X18_sign_311 D d Q r0 h_47)) ∧ (¬ v_6 = (124 : Int32) → cX18_broken D d r0 h_4 (pR D h_4 9 (fun v_51 h_49 => v_51 ≠ 0 ∧ (Q (.inr v_51) h_49)) (jth Q)))) ∧ (¬ x1 = (37 : Int32) → ¬ x1 = (40 : Int32) → ¬ x1 = (41 : Int32) → ¬ x1 = (42 : Int32) → ¬ x1 = (43 : Int32) → ¬ x1 = (44 : Int32) → ¬ x1 = (45 : Int32) → ¬ x1 = (46 : Int32) → ¬ x1 = (47 : Int32) → ¬ x1 = (59 : Int32) → ¬ x1 = (60 : Int32) → ¬ x1 = (61 : Int32) → ¬ x1 = (62 : Int32) → ¬ x1 = (124 : Int32) → cX18_broken D d r0 h_4 (pR D h_4 9 (fun v_55 h_53 => v_55 ≠ 0 ∧ (Q (.inr v_55) h_53)) (jth Q)))) (jth Q)))
theorem w_X18_sign_0 {D : JD} {d : Nat} {Q : JO → JH → Prop} {r0 : Nat} {x1 : Int32} {h : JH} (w : W_X18_sign_0 D d Q r0 x1 h) : JW D (d + 1) mX18_sign 0 [some (vR 15 r0), some (vI x1), none] [] h Q := by
  unfold W_X18_sign_0 at w
  refine jw_aload_n (pc' := 1) rfl rfl ?_
  refine jw_getsR (pc' := 4) rfl rfl rfl rfl ?_
  obtain ⟨g_1, w⟩ := w
  refine jw_putR' (pc' := 7) (F := 86) rfl rfl rfl (Or.inr rfl) (Or.inl rfl) rfl rfl rfl g_1 (fun h_2 e_3 => ?_)
  replace w := w h_2 e_3
  refine jw_aload_n (pc' := 8) rfl rfl ?_
  refine jw_iconst (pc' := 9) (x := (1 : Int32)) rfl rfl ?_
  refine jw_cI (st := []) (sa := [vR 15 r0, vI (1 : Int32)]) okX18_look rfl rfl rfl rfl rfl rfl (jstp_virtual (sa := [vI (1 : Int32)]) (st := []) (k := 0) rfl rfl sX18_look okX18_look g_1 (one15.k g_1) rfl rfl) w (fun v_6 h_4 _ _ w => ?_)
  refine jw_istore_n (pc' := 13) (ls' := [some (vR 15 r0), some (vI x1), some (vI v_6)]) rfl (by decide) rfl ?_
  refine jw_iload_n (pc' := 14) rfl rfl ?_
  refine jw_lsw (cs := [((37 : Int32), 288), ((40 : Int32), 207), ((41 : Int32), 216), ((42 : Int32), 252), ((43 : Int32), 261), ((44 : Int32), 225), ((45 : Int32), 270), ((46 : Int32), 243), ((47 : Int32), 279), ((59 : Int32), 234), ((60 : Int32), 136), ((61 : Int32), 297), ((62 : Int32), 167), ((124 : Int32), 187)]) (dt := 306) rfl (by decide +kernel) (by decide +kernel) ?_
  by_cases c_7 : x1 = (37 : Int32)
  · rw [jsw_hit c_7]
    replace w := w.1 c_7
    refine jw_aload_n (pc' := 289) rfl rfl ?_
    refine jw_ldcS (pc' := 291) rfl rfl rfl rfl ?_
    refine jw_putR' (pc' := 294) (F := 88) rfl rfl rfl (Or.inr rfl) (Or.inl rfl) rfl rfl rfl g_1 (fun h_8 e_9 => ?_)
    replace w := w h_8 e_9
    refine jw_goto (pc' := 311) rfl rfl ?_
    refine jw_gen (ls' := [some (vR 15 r0), none, none]) (st' := []) (And.intro (Or.inl rfl) (trivial)) (trivial) ?_
    exact w_X18_sign_311 w
  · rw [jsw_miss c_7]
    replace w := w.2
    by_cases c_10 : x1 = (40 : Int32)
    · rw [jsw_hit c_10]
      replace w := w.1 c_10
      refine jw_aload_n (pc' := 208) rfl rfl ?_
      refine jw_ldcS (pc' := 210) rfl rfl rfl rfl ?_
      refine jw_putR' (pc' := 213) (F := 88) rfl rfl rfl (Or.inr rfl) (Or.inl rfl) rfl rfl rfl g_1 (fun h_11 e_12 => ?_)
      replace w := w h_11 e_12
      refine jw_goto (pc' := 311) rfl rfl ?_
      refine jw_gen (ls' := [some (vR 15 r0), none, none]) (st' := []) (And.intro (Or.inl rfl) (trivial)) (trivial) ?_
      exact w_X18_sign_311 w
    · rw [jsw_miss c_10]
      replace w := w.2
      by_cases c_13 : x1 = (41 : Int32)
      · rw [jsw_hit c_13]
        replace w := w.1 c_13
        refine jw_aload_n (pc' := 217) rfl rfl ?_
        refine jw_ldcS (pc' := 219) rfl rfl rfl rfl ?_
        refine jw_putR' (pc' := 222) (F := 88) rfl rfl rfl (Or.inr rfl) (Or.inl rfl) rfl rfl rfl g_1 (fun h_14 e_15 => ?_)
        replace w := w h_14 e_15
        refine jw_goto (pc' := 311) rfl rfl ?_
        refine jw_gen (ls' := [some (vR 15 r0), none, none]) (st' := []) (And.intro (Or.inl rfl) (trivial)) (trivial) ?_
        exact w_X18_sign_311 w
      · rw [jsw_miss c_13]
        replace w := w.2
        by_cases c_16 : x1 = (42 : Int32)
        · rw [jsw_hit c_16]
          replace w := w.1 c_16
          refine jw_aload_n (pc' := 253) rfl rfl ?_
          refine jw_ldcS (pc' := 255) rfl rfl rfl rfl ?_
          refine jw_putR' (pc' := 258) (F := 88) rfl rfl rfl (Or.inr rfl) (Or.inl rfl) rfl rfl rfl g_1 (fun h_17 e_18 => ?_)
          replace w := w h_17 e_18
          refine jw_goto (pc' := 311) rfl rfl ?_
          refine jw_gen (ls' := [some (vR 15 r0), none, none]) (st' := []) (And.intro (Or.inl rfl) (trivial)) (trivial) ?_
          exact w_X18_sign_311 w
        · rw [jsw_miss c_16]
          replace w := w.2
          by_cases c_19 : x1 = (43 : Int32)
          · rw [jsw_hit c_19]
            replace w := w.1 c_19
            refine jw_aload_n (pc' := 262) rfl rfl ?_
            refine jw_ldcS (pc' := 264) rfl rfl rfl rfl ?_
            refine jw_putR' (pc' := 267) (F := 88) rfl rfl rfl (Or.inr rfl) (Or.inl rfl) rfl rfl rfl g_1 (fun h_20 e_21 => ?_)
            replace w := w h_20 e_21
            refine jw_goto (pc' := 311) rfl rfl ?_
            refine jw_gen (ls' := [some (vR 15 r0), none, none]) (st' := []) (And.intro (Or.inl rfl) (trivial)) (trivial) ?_
            exact w_X18_sign_311 w
          · rw [jsw_miss c_19]
            replace w := w.2
            by_cases c_22 : x1 = (44 : Int32)
            · rw [jsw_hit c_22]
              replace w := w.1 c_22
              refine jw_aload_n (pc' := 226) rfl rfl ?_
              refine jw_ldcS (pc' := 228) rfl rfl rfl rfl ?_
              refine jw_putR' (pc' := 231) (F := 88) rfl rfl rfl (Or.inr rfl) (Or.inl rfl) rfl rfl rfl g_1 (fun h_23 e_24 => ?_)
              replace w := w h_23 e_24
              refine jw_goto (pc' := 311) rfl rfl ?_
              refine jw_gen (ls' := [some (vR 15 r0), none, none]) (st' := []) (And.intro (Or.inl rfl) (trivial)) (trivial) ?_
              exact w_X18_sign_311 w
            · rw [jsw_miss c_22]
              replace w := w.2
              by_cases c_25 : x1 = (45 : Int32)
              · rw [jsw_hit c_25]
                replace w := w.1 c_25
                refine jw_aload_n (pc' := 271) rfl rfl ?_
                refine jw_ldcS (pc' := 273) rfl rfl rfl rfl ?_
                refine jw_putR' (pc' := 276) (F := 88) rfl rfl rfl (Or.inr rfl) (Or.inl rfl) rfl rfl rfl g_1 (fun h_26 e_27 => ?_)
                replace w := w h_26 e_27
                refine jw_goto (pc' := 311) rfl rfl ?_
                refine jw_gen (ls' := [some (vR 15 r0), none, none]) (st' := []) (And.intro (Or.inl rfl) (trivial)) (trivial) ?_
                exact w_X18_sign_311 w
              · rw [jsw_miss c_25]
                replace w := w.2
                by_cases c_28 : x1 = (46 : Int32)
                · rw [jsw_hit c_28]
                  replace w := w.1 c_28
                  refine jw_aload_n (pc' := 244) rfl rfl ?_
                  refine jw_ldcS (pc' := 246) rfl rfl rfl rfl ?_
                  refine jw_putR' (pc' := 249) (F := 88) rfl rfl rfl (Or.inr rfl) (Or.inl rfl) rfl rfl rfl g_1 (fun h_29 e_30 => ?_)
                  replace w := w h_29 e_30
                  refine jw_goto (pc' := 311) rfl rfl ?_
                  refine jw_gen (ls' := [some (vR 15 r0), none, none]) (st' := []) (And.intro (Or.inl rfl) (trivial)) (trivial) ?_
                  exact w_X18_sign_311 w
                · rw [jsw_miss c_28]
                  replace w := w.2
                  by_cases c_31 : x1 = (47 : Int32)
                  · rw [jsw_hit c_31]
                    replace w := w.1 c_31
                    refine jw_aload_n (pc' := 280) rfl rfl ?_
                    refine jw_ldcS (pc' := 282) rfl rfl rfl rfl ?_
                    refine jw_putR' (pc' := 285) (F := 88) rfl rfl rfl (Or.inr rfl) (Or.inl rfl) rfl rfl rfl g_1 (fun h_32 e_33 => ?_)
                    replace w := w h_32 e_33
                    refine jw_goto (pc' := 311) rfl rfl ?_
                    refine jw_gen (ls' := [some (vR 15 r0), none, none]) (st' := []) (And.intro (Or.inl rfl) (trivial)) (trivial) ?_
                    exact w_X18_sign_311 w
                  · rw [jsw_miss c_31]
                    replace w := w.2
                    by_cases c_34 : x1 = (59 : Int32)
                    · rw [jsw_hit c_34]
                      replace w := w.1 c_34
                      refine jw_aload_n (pc' := 235) rfl rfl ?_
                      refine jw_ldcS (pc' := 237) rfl rfl rfl rfl ?_
                      refine jw_putR' (pc' := 240) (F := 88) rfl rfl rfl (Or.inr rfl) (Or.inl rfl) rfl rfl rfl g_1 (fun h_35 e_36 => ?_)
                      replace w := w h_35 e_36
                      refine jw_goto (pc' := 311) rfl rfl ?_
                      refine jw_gen (ls' := [some (vR 15 r0), none, none]) (st' := []) (And.intro (Or.inl rfl) (trivial)) (trivial) ?_
                      exact w_X18_sign_311 w
                    · rw [jsw_miss c_34]
                      replace w := w.2
                      by_cases c_37 : x1 = (60 : Int32)
                      · rw [jsw_hit c_37]
                        replace w := w.1 c_37
                        refine jw_aload_n (pc' := 137) rfl rfl ?_
                        refine jw_iload_n (pc' := 138) rfl rfl ?_
                        refine jw_bipush (pc' := 140) (x := (61 : Int32)) rfl rfl ?_
                        refine jw_icmp_ne (tgt := 148) (pc' := 143) rfl rfl (fun c_38 => ?_) (fun c_38 => ?_)
                        · replace w := w.1 c_38
                          refine jw_iload_n (pc' := 149) rfl rfl ?_
                          refine jw_bipush (pc' := 151) (x := (62 : Int32)) rfl rfl ?_
                          refine jw_icmp_ne (tgt := 159) (pc' := 154) rfl rfl (fun c_39 => ?_) (fun c_39 => ?_)
                          · replace w := w.1 c_39
                            refine jw_ldcS (pc' := 161) rfl rfl rfl rfl ?_
                            refine jw_gen (ls' := [some (vR 15 r0), none, none]) (st' := [vR 51 (jcs D 14), vR 15 r0]) (And.intro (Or.inl rfl) (trivial)) (And.intro (Or.inl rfl) (And.intro (Or.inl rfl) (trivial))) ?_
                            exact w_X18_sign_161 w
                          · replace w := w.2 c_39
                            refine jw_ldcS (pc' := 156) rfl rfl rfl rfl ?_
                            refine jw_goto (pc' := 161) rfl rfl ?_
                            refine jw_gen (ls' := [some (vR 15 r0), none, none]) (st' := [vR 51 (jcs D 13), vR 15 r0]) (And.intro (Or.inl rfl) (trivial)) (And.intro (Or.inl rfl) (And.intro (Or.inl rfl) (trivial))) ?_
                            exact w_X18_sign_161 w
                        · replace w := w.2 c_38
                          refine jw_ldcS (pc' := 145) rfl rfl rfl rfl ?_
                          refine jw_goto (pc' := 161) rfl rfl ?_
                          refine jw_gen (ls' := [some (vR 15 r0), none, none]) (st' := [vR 51 (jcs D 12), vR 15 r0]) (And.intro (Or.inl rfl) (trivial)) (And.intro (Or.inl rfl) (And.intro (Or.inl rfl) (trivial))) ?_
                          exact w_X18_sign_161 w
                      · rw [jsw_miss c_37]
                        replace w := w.2
                        by_cases c_40 : x1 = (61 : Int32)
                        · rw [jsw_hit c_40]
                          replace w := w.1 c_40
                          refine jw_aload_n (pc' := 298) rfl rfl ?_
                          refine jw_ldcS (pc' := 300) rfl rfl rfl rfl ?_
                          refine jw_putR' (pc' := 303) (F := 88) rfl rfl rfl (Or.inr rfl) (Or.inl rfl) rfl rfl rfl g_1 (fun h_41 e_42 => ?_)
                          replace w := w h_41 e_42
                          refine jw_goto (pc' := 311) rfl rfl ?_
                          refine jw_gen (ls' := [some (vR 15 r0), none, none]) (st' := []) (And.intro (Or.inl rfl) (trivial)) (trivial) ?_
                          exact w_X18_sign_311 w
                        · rw [jsw_miss c_40]
                          replace w := w.2
                          by_cases c_43 : x1 = (62 : Int32)
                          · rw [jsw_hit c_43]
                            replace w := w.1 c_43
                            refine jw_aload_n (pc' := 168) rfl rfl ?_
                            refine jw_iload_n (pc' := 169) rfl rfl ?_
                            refine jw_bipush (pc' := 171) (x := (61 : Int32)) rfl rfl ?_
                            refine jw_icmp_ne (tgt := 179) (pc' := 174) rfl rfl (fun c_44 => ?_) (fun c_44 => ?_)
                            · replace w := w.1 c_44
                              refine jw_ldcS (pc' := 181) rfl rfl rfl rfl ?_
                              refine jw_gen (ls' := [some (vR 15 r0), none, none]) (st' := [vR 51 (jcs D 16), vR 15 r0]) (And.intro (Or.inl rfl) (trivial)) (And.intro (Or.inl rfl) (And.intro (Or.inl rfl) (trivial))) ?_
                              exact w_X18_sign_181 w
                            · replace w := w.2 c_44
                              refine jw_ldcS (pc' := 176) rfl rfl rfl rfl ?_
                              refine jw_goto (pc' := 181) rfl rfl ?_
                              refine jw_gen (ls' := [some (vR 15 r0), none, none]) (st' := [vR 51 (jcs D 15), vR 15 r0]) (And.intro (Or.inl rfl) (trivial)) (And.intro (Or.inl rfl) (And.intro (Or.inl rfl) (trivial))) ?_
                              exact w_X18_sign_181 w
                          · rw [jsw_miss c_43]
                            replace w := w.2
                            by_cases c_45 : x1 = (124 : Int32)
                            · rw [jsw_hit c_45]
                              replace w := w.1 c_45
                              refine jw_iload_n (pc' := 188) rfl rfl ?_
                              refine jw_bipush (pc' := 190) (x := (124 : Int32)) rfl rfl ?_
                              refine jw_icmp_eq (tgt := 198) (pc' := 193) rfl rfl (fun c_46 => ?_) (fun c_46 => ?_)
                              · replace w := w.1 c_46
                                refine jw_aload_n (pc' := 199) rfl rfl ?_
                                refine jw_ldcS (pc' := 201) rfl rfl rfl rfl ?_
                                refine jw_putR' (pc' := 204) (F := 88) rfl rfl rfl (Or.inr rfl) (Or.inl rfl) rfl rfl rfl g_1 (fun h_47 e_48 => ?_)
                                replace w := w h_47 e_48
                                refine jw_goto (pc' := 311) rfl rfl ?_
                                refine jw_gen (ls' := [some (vR 15 r0), none, none]) (st' := []) (And.intro (Or.inl rfl) (trivial)) (trivial) ?_
                                exact w_X18_sign_311 w
                              · replace w := w.2 c_46
                                refine jw_aload_n (pc' := 194) rfl rfl ?_
                                refine jw_cR (st := []) (sa := [vR 15 r0]) okX18_broken rfl rfl rfl rfl rfl rfl (jstp_virtual (sa := []) (st := []) (k := 0) rfl rfl sX18_broken okX18_broken g_1 (one15.k g_1) rfl rfl) w (fun v_51 h_49 _ _ _ w => ?_)
                                obtain ⟨g_52, w⟩ := w
                                exact jw_athrow rfl rfl g_52 w
                            · rw [jsw_miss c_45]
                              replace w := w.2
                              rw [jsw_nil]
                              replace w := w c_7 c_10 c_13 c_16 c_19 c_22 c_25 c_28 c_31 c_34 c_37 c_40 c_43 c_45
                              refine jw_aload_n (pc' := 307) rfl rfl ?_
                              refine jw_cR (st := []) (sa := [vR 15 r0]) okX18_broken rfl rfl rfl rfl rfl rfl (jstp_virtual (sa := []) (st := []) (k := 0) rfl rfl sX18_broken okX18_broken g_1 (one15.k g_1) rfl rfl) w (fun v_55 h_53 _ _ _ w => ?_)
                              obtain ⟨g_56, w⟩ := w
                              exact jw_athrow rfl rfl g_56 w
def T_X18_sign (D : JD) (d : Nat) (Q : JO → JH → Prop) (r0 : Nat) (x1 : Int32) (h : JH) : Prop := W_X18_sign_0 D d Q r0 x1 h
theorem t_X18_sign {D : JD} {d : Nat} {Q : JO → JH → Prop} {r0 : Nat} {x1 : Int32} {h : JH} (w : T_X18_sign D d Q r0 x1 h) : cX18_sign D (d + 1) r0 x1 h Q := by
  unfold T_X18_sign at w
  unfold cX18_sign
  exact w_X18_sign_0 w
def W_X18_takes_0 (D : JD) (d : Nat) (Q : JO → JH → Prop) (r0 : Nat) (r1 : Nat) (h : JH) : Prop :=
  r0 ≠ 0 ∧ (cX18_is D d r0 r1 h (pI D h (fun v_4 h_2 => (¬ v_4 = 0 → cX18_next D d r0 h_2 (pV D h_2 (fun h_6 => Q (.inl (some (vI (1 : Int32)))) h_6) (jth Q))) ∧ (v_4 = 0 → Q (.inl (some (vI (0 : Int32)))) h_2)) (jth Q)))
theorem w_X18_takes_0 {D : JD} {d : Nat} {Q : JO → JH → Prop} {r0 : Nat} {r1 : Nat} {h : JH} (w : W_X18_takes_0 D d Q r0 r1 h) : JW D (d + 1) mX18_takes 0 [some (vR 15 r0), some (vR 64 r1)] [] h Q := by
  unfold W_X18_takes_0 at w
  refine jw_aload_n (pc' := 1) rfl rfl ?_
  refine jw_aload_n (pc' := 2) rfl rfl ?_
  obtain ⟨g_1, w⟩ := w
  refine jw_cI (st := []) (sa := [vR 15 r0, vR 64 r1]) okX18_is rfl rfl rfl rfl rfl rfl (jstp_virtual (sa := [vR 64 r1]) (st := []) (k := 0) rfl rfl sX18_is okX18_is g_1 (one15.k g_1) rfl rfl) w (fun v_4 h_2 _ _ w => ?_)
  refine jw_if_ne (tgt := 10) (pc' := 8) rfl rfl (fun c_5 => ?_) (fun c_5 => ?_)
  · replace w := w.1 c_5
    refine jw_aload_n (pc' := 11) rfl rfl ?_
    refine jw_cV (st := []) (sa := [vR 15 r0]) okX18_next rfl rfl rfl rfl rfl rfl (jstp_virtual (sa := []) (st := []) (k := 0) rfl rfl sX18_next okX18_next g_1 (one15.k g_1) rfl rfl) w (fun h_6 _ _ w => ?_)
    refine jw_iconst (pc' := 15) (x := (1 : Int32)) rfl rfl ?_
    exact jw_ireturn rfl rfl (rfl) w
  · replace w := w.2 c_5
    refine jw_iconst (pc' := 9) (x := (0 : Int32)) rfl rfl ?_
    exact jw_ireturn rfl rfl (rfl) w
def T_X18_takes (D : JD) (d : Nat) (Q : JO → JH → Prop) (r0 : Nat) (r1 : Nat) (h : JH) : Prop := W_X18_takes_0 D d Q r0 r1 h
theorem t_X18_takes {D : JD} {d : Nat} {Q : JO → JH → Prop} {r0 : Nat} {r1 : Nat} {h : JH} (w : T_X18_takes D d Q r0 r1 h) : cX18_takes D (d + 1) r0 r1 h Q := by
  unfold T_X18_takes at w
  unfold cX18_takes
  exact w_X18_takes_0 w
def W_X18_is_26 (D : JD) (d : Nat) (Q : JO → JH → Prop) (s0 : Int32) (h : JH) : Prop :=
  jbo s0 ∧ (Q (.inl (some (vI s0))) h)
theorem w_X18_is_26 {D : JD} {d : Nat} {Q : JO → JH → Prop} {s0 : Int32} {h : JH} (w : W_X18_is_26 D d Q s0 h) : JW D (d + 1) mX18_is 26 [none, none] [vI s0] h Q := by
  unfold W_X18_is_26 at w
  obtain ⟨g_1, w⟩ := w
  exact jw_ireturn rfl rfl (g_1.nr) w
def W_X18_is_25 (D : JD) (d : Nat) (Q : JO → JH → Prop) (h : JH) : Prop :=
  W_X18_is_26 D d Q (0 : Int32) h
theorem w_X18_is_25 {D : JD} {d : Nat} {Q : JO → JH → Prop} {h : JH} (w : W_X18_is_25 D d Q h) : JW D (d + 1) mX18_is 25 [none, none] [] h Q := by
  unfold W_X18_is_25 at w
  refine jw_iconst (pc' := 26) (x := (0 : Int32)) rfl rfl ?_
  exact w_X18_is_26 w
def W_X18_is_0 (D : JD) (d : Nat) (Q : JO → JH → Prop) (r0 : Nat) (r1 : Nat) (h : JH) : Prop :=
  r0 ≠ 0 ∧ ((¬ (jfr h 86 r0) = (jcs D 355) → W_X18_is_25 D d Q h) ∧ ((jfr h 86 r0) = (jcs D 355) → (jfr h 88 r0) ≠ 0 ∧ (cJ5_equals D d (jfr h 88 r0) r1 h (pI D h (fun v_6 h_4 => (v_6 = 0 → W_X18_is_25 D d Q h_4) ∧ (¬ v_6 = 0 → W_X18_is_26 D d Q (1 : Int32) h_4)) (jth Q)))))
theorem w_X18_is_0 {D : JD} {d : Nat} {Q : JO → JH → Prop} {r0 : Nat} {r1 : Nat} {h : JH} (w : W_X18_is_0 D d Q r0 r1 h) : JW D (d + 1) mX18_is 0 [some (vR 15 r0), some (vR 64 r1)] [] h Q := by
  unfold W_X18_is_0 at w
  refine jw_aload_n (pc' := 1) rfl rfl ?_
  obtain ⟨g_1, w⟩ := w
  refine jw_getR (pc' := 4) (F := 86) (t' := 53) rfl rfl rfl rfl rfl g_1 ?_
  refine jw_getsR (pc' := 7) rfl rfl rfl rfl ?_
  refine jw_acmp_ne (tgt := 25) (pc' := 10) rfl rfl (fun c_2 => ?_) (fun c_2 => ?_)
  · replace w := w.1 c_2
    refine jw_gen (ls' := [none, none]) (st' := []) (trivial) (trivial) ?_
    exact w_X18_is_25 w
  · replace w := w.2 c_2
    refine jw_aload_n (pc' := 11) rfl rfl ?_
    refine jw_getR (pc' := 14) (F := 88) (t' := 64) rfl rfl rfl rfl rfl g_1 ?_
    refine jw_aload_n (pc' := 15) rfl rfl ?_
    obtain ⟨g_3, w⟩ := w
    refine jw_cI (st := []) (sa := [vR 64 (jfr h 88 r0), vR 64 r1]) okJ5_equals rfl rfl rfl rfl rfl rfl (jstp_virtual (sa := [vR 64 r1]) (st := []) (k := 0) rfl rfl sJ5_equals okJ5_equals g_3 (one64.k g_3) rfl rfl) w (fun v_6 h_4 _ _ w => ?_)
    refine jw_if_eq (tgt := 25) (pc' := 21) rfl rfl (fun c_7 => ?_) (fun c_7 => ?_)
    · replace w := w.1 c_7
      refine jw_gen (ls' := [none, none]) (st' := []) (trivial) (trivial) ?_
      exact w_X18_is_25 w
    · replace w := w.2 c_7
      refine jw_iconst (pc' := 22) (x := (1 : Int32)) rfl rfl ?_
      refine jw_goto (pc' := 26) rfl rfl ?_
      refine jw_gen (ls' := [none, none]) (st' := [vI (1 : Int32)]) (trivial) (And.intro (Or.inl rfl) (trivial)) ?_
      exact w_X18_is_26 w
def T_X18_is (D : JD) (d : Nat) (Q : JO → JH → Prop) (r0 : Nat) (r1 : Nat) (h : JH) : Prop := W_X18_is_0 D d Q r0 r1 h
theorem t_X18_is {D : JD} {d : Nat} {Q : JO → JH → Prop} {r0 : Nat} {r1 : Nat} {h : JH} (w : T_X18_is D d Q r0 r1 h) : cX18_is D (d + 1) r0 r1 h Q := by
  unfold T_X18_is at w
  unfold cX18_is
  exact w_X18_is_0 w
def W_X18_needWord_0 (D : JD) (d : Nat) (Q : JO → JH → Prop) (r0 : Nat) (r1 : Nat) (h : JH) : Prop :=
  r0 ≠ 0 ∧ (cX18_takesWord D d r0 r1 h (pI D h (fun v_4 h_2 => (¬ v_4 = 0 → Q (.inl none) h_2) ∧ (v_4 = 0 → cX18_broken D d r0 h_2 (pR D h_2 9 (fun v_8 h_6 => v_8 ≠ 0 ∧ (Q (.inr v_8) h_6)) (jth Q)))) (jth Q)))
theorem w_X18_needWord_0 {D : JD} {d : Nat} {Q : JO → JH → Prop} {r0 : Nat} {r1 : Nat} {h : JH} (w : W_X18_needWord_0 D d Q r0 r1 h) : JW D (d + 1) mX18_needWord 0 [some (vR 15 r0), some (vR 64 r1)] [] h Q := by
  unfold W_X18_needWord_0 at w
  refine jw_aload_n (pc' := 1) rfl rfl ?_
  refine jw_aload_n (pc' := 2) rfl rfl ?_
  obtain ⟨g_1, w⟩ := w
  refine jw_cI (st := []) (sa := [vR 15 r0, vR 64 r1]) okX18_takesWord rfl rfl rfl rfl rfl rfl (jstp_virtual (sa := [vR 64 r1]) (st := []) (k := 0) rfl rfl sX18_takesWord okX18_takesWord g_1 (one15.k g_1) rfl rfl) w (fun v_4 h_2 _ _ w => ?_)
  refine jw_if_ne (tgt := 13) (pc' := 8) rfl rfl (fun c_5 => ?_) (fun c_5 => ?_)
  · replace w := w.1 c_5
    exact jw_return rfl rfl w
  · replace w := w.2 c_5
    refine jw_aload_n (pc' := 9) rfl rfl ?_
    refine jw_cR (st := []) (sa := [vR 15 r0]) okX18_broken rfl rfl rfl rfl rfl rfl (jstp_virtual (sa := []) (st := []) (k := 0) rfl rfl sX18_broken okX18_broken g_1 (one15.k g_1) rfl rfl) w (fun v_8 h_6 _ _ _ w => ?_)
    obtain ⟨g_9, w⟩ := w
    exact jw_athrow rfl rfl g_9 w
def T_X18_needWord (D : JD) (d : Nat) (Q : JO → JH → Prop) (r0 : Nat) (r1 : Nat) (h : JH) : Prop := W_X18_needWord_0 D d Q r0 r1 h
theorem t_X18_needWord {D : JD} {d : Nat} {Q : JO → JH → Prop} {r0 : Nat} {r1 : Nat} {h : JH} (w : T_X18_needWord D d Q r0 r1 h) : cX18_needWord D (d + 1) r0 r1 h Q := by
  unfold T_X18_needWord at w
  unfold cX18_needWord
  exact w_X18_needWord_0 w
def W_X18_takesWord_0 (D : JD) (d : Nat) (Q : JO → JH → Prop) (r0 : Nat) (r1 : Nat) (h : JH) : Prop :=
  r0 ≠ 0 ∧ (cX18_isWord D d r0 r1 h (pI D h (fun v_4 h_2 => (¬ v_4 = 0 → cX18_next D d r0 h_2 (pV D h_2 (fun h_6 => Q (.inl (some (vI (1 : Int32)))) h_6) (jth Q))) ∧ (v_4 = 0 → Q (.inl (some (vI (0 : Int32)))) h_2)) (jth Q)))
theorem w_X18_takesWord_0 {D : JD} {d : Nat} {Q : JO → JH → Prop} {r0 : Nat} {r1 : Nat} {h : JH} (w : W_X18_takesWord_0 D d Q r0 r1 h) : JW D (d + 1) mX18_takesWord 0 [some (vR 15 r0), some (vR 64 r1)] [] h Q := by
  unfold W_X18_takesWord_0 at w
  refine jw_aload_n (pc' := 1) rfl rfl ?_
  refine jw_aload_n (pc' := 2) rfl rfl ?_
  obtain ⟨g_1, w⟩ := w
  refine jw_cI (st := []) (sa := [vR 15 r0, vR 64 r1]) okX18_isWord rfl rfl rfl rfl rfl rfl (jstp_virtual (sa := [vR 64 r1]) (st := []) (k := 0) rfl rfl sX18_isWord okX18_isWord g_1 (one15.k g_1) rfl rfl) w (fun v_4 h_2 _ _ w => ?_)
  refine jw_if_ne (tgt := 10) (pc' := 8) rfl rfl (fun c_5 => ?_) (fun c_5 => ?_)
  · replace w := w.1 c_5
    refine jw_aload_n (pc' := 11) rfl rfl ?_
    refine jw_cV (st := []) (sa := [vR 15 r0]) okX18_next rfl rfl rfl rfl rfl rfl (jstp_virtual (sa := []) (st := []) (k := 0) rfl rfl sX18_next okX18_next g_1 (one15.k g_1) rfl rfl) w (fun h_6 _ _ w => ?_)
    refine jw_iconst (pc' := 15) (x := (1 : Int32)) rfl rfl ?_
    exact jw_ireturn rfl rfl (rfl) w
  · replace w := w.2 c_5
    refine jw_iconst (pc' := 9) (x := (0 : Int32)) rfl rfl ?_
    exact jw_ireturn rfl rfl (rfl) w
def T_X18_takesWord (D : JD) (d : Nat) (Q : JO → JH → Prop) (r0 : Nat) (r1 : Nat) (h : JH) : Prop := W_X18_takesWord_0 D d Q r0 r1 h
theorem t_X18_takesWord {D : JD} {d : Nat} {Q : JO → JH → Prop} {r0 : Nat} {r1 : Nat} {h : JH} (w : T_X18_takesWord D d Q r0 r1 h) : cX18_takesWord D (d + 1) r0 r1 h Q := by
  unfold T_X18_takesWord at w
  unfold cX18_takesWord
  exact w_X18_takesWord_0 w
def W_X18_isWord_26 (D : JD) (d : Nat) (Q : JO → JH → Prop) (s0 : Int32) (h : JH) : Prop :=
  jbo s0 ∧ (Q (.inl (some (vI s0))) h)
theorem w_X18_isWord_26 {D : JD} {d : Nat} {Q : JO → JH → Prop} {s0 : Int32} {h : JH} (w : W_X18_isWord_26 D d Q s0 h) : JW D (d + 1) mX18_isWord 26 [none, none] [vI s0] h Q := by
  unfold W_X18_isWord_26 at w
  obtain ⟨g_1, w⟩ := w
  exact jw_ireturn rfl rfl (g_1.nr) w
def W_X18_isWord_25 (D : JD) (d : Nat) (Q : JO → JH → Prop) (h : JH) : Prop :=
  W_X18_isWord_26 D d Q (0 : Int32) h
theorem w_X18_isWord_25 {D : JD} {d : Nat} {Q : JO → JH → Prop} {h : JH} (w : W_X18_isWord_25 D d Q h) : JW D (d + 1) mX18_isWord 25 [none, none] [] h Q := by
  unfold W_X18_isWord_25 at w
  refine jw_iconst (pc' := 26) (x := (0 : Int32)) rfl rfl ?_
  exact w_X18_isWord_26 w
def W_X18_isWord_0 (D : JD) (d : Nat) (Q : JO → JH → Prop) (r0 : Nat) (r1 : Nat) (h : JH) : Prop :=
  r0 ≠ 0 ∧ ((¬ (jfr h 86 r0) = (jcs D 351) → W_X18_isWord_25 D d Q h) ∧ ((jfr h 86 r0) = (jcs D 351) → (jfr h 88 r0) ≠ 0 ∧ (cJ5_equals D d (jfr h 88 r0) r1 h (pI D h (fun v_6 h_4 => (v_6 = 0 → W_X18_isWord_25 D d Q h_4) ∧ (¬ v_6 = 0 → W_X18_isWord_26 D d Q (1 : Int32) h_4)) (jth Q)))))
theorem w_X18_isWord_0 {D : JD} {d : Nat} {Q : JO → JH → Prop} {r0 : Nat} {r1 : Nat} {h : JH} (w : W_X18_isWord_0 D d Q r0 r1 h) : JW D (d + 1) mX18_isWord 0 [some (vR 15 r0), some (vR 64 r1)] [] h Q := by
  unfold W_X18_isWord_0 at w
  refine jw_aload_n (pc' := 1) rfl rfl ?_
  obtain ⟨g_1, w⟩ := w
  refine jw_getR (pc' := 4) (F := 86) (t' := 53) rfl rfl rfl rfl rfl g_1 ?_
  refine jw_getsR (pc' := 7) rfl rfl rfl rfl ?_
  refine jw_acmp_ne (tgt := 25) (pc' := 10) rfl rfl (fun c_2 => ?_) (fun c_2 => ?_)
  · replace w := w.1 c_2
    refine jw_gen (ls' := [none, none]) (st' := []) (trivial) (trivial) ?_
    exact w_X18_isWord_25 w
  · replace w := w.2 c_2
    refine jw_aload_n (pc' := 11) rfl rfl ?_
    refine jw_getR (pc' := 14) (F := 88) (t' := 64) rfl rfl rfl rfl rfl g_1 ?_
    refine jw_aload_n (pc' := 15) rfl rfl ?_
    obtain ⟨g_3, w⟩ := w
    refine jw_cI (st := []) (sa := [vR 64 (jfr h 88 r0), vR 64 r1]) okJ5_equals rfl rfl rfl rfl rfl rfl (jstp_virtual (sa := [vR 64 r1]) (st := []) (k := 0) rfl rfl sJ5_equals okJ5_equals g_3 (one64.k g_3) rfl rfl) w (fun v_6 h_4 _ _ w => ?_)
    refine jw_if_eq (tgt := 25) (pc' := 21) rfl rfl (fun c_7 => ?_) (fun c_7 => ?_)
    · replace w := w.1 c_7
      refine jw_gen (ls' := [none, none]) (st' := []) (trivial) (trivial) ?_
      exact w_X18_isWord_25 w
    · replace w := w.2 c_7
      refine jw_iconst (pc' := 22) (x := (1 : Int32)) rfl rfl ?_
      refine jw_goto (pc' := 26) rfl rfl ?_
      refine jw_gen (ls' := [none, none]) (st' := [vI (1 : Int32)]) (trivial) (And.intro (Or.inl rfl) (trivial)) ?_
      exact w_X18_isWord_26 w
def T_X18_isWord (D : JD) (d : Nat) (Q : JO → JH → Prop) (r0 : Nat) (r1 : Nat) (h : JH) : Prop := W_X18_isWord_0 D d Q r0 r1 h
theorem t_X18_isWord {D : JD} {d : Nat} {Q : JO → JH → Prop} {r0 : Nat} {r1 : Nat} {h : JH} (w : T_X18_isWord D d Q r0 r1 h) : cX18_isWord D (d + 1) r0 r1 h Q := by
  unfold T_X18_isWord at w
  unfold cX18_isWord
  exact w_X18_isWord_0 w
def W_X18_name_0 (D : JD) (d : Nat) (Q : JO → JH → Prop) (r0 : Nat) (h : JH) : Prop :=
  r0 ≠ 0 ∧ (cX18_isName D d r0 h (pI D h (fun v_4 h_2 => (¬ v_4 = 0 → cX18_next D d r0 h_2 (pV D h_2 (fun h_6 => Q (.inl (some (vR 64 (jfr h_2 88 r0)))) h_6) (jth Q))) ∧ (v_4 = 0 → cX18_broken D d r0 h_2 (pR D h_2 9 (fun v_11 h_9 => v_11 ≠ 0 ∧ (Q (.inr v_11) h_9)) (jth Q)))) (jth Q)))
theorem w_X18_name_0 {D : JD} {d : Nat} {Q : JO → JH → Prop} {r0 : Nat} {h : JH} (w : W_X18_name_0 D d Q r0 h) : JW D (d + 1) mX18_name 0 [some (vR 15 r0), none] [] h Q := by
  unfold W_X18_name_0 at w
  refine jw_aload_n (pc' := 1) rfl rfl ?_
  obtain ⟨g_1, w⟩ := w
  refine jw_cI (st := []) (sa := [vR 15 r0]) okX18_isName rfl rfl rfl rfl rfl rfl (jstp_virtual (sa := []) (st := []) (k := 0) rfl rfl sX18_isName okX18_isName g_1 (one15.k g_1) rfl rfl) w (fun v_4 h_2 _ _ w => ?_)
  refine jw_if_ne (tgt := 12) (pc' := 7) rfl rfl (fun c_5 => ?_) (fun c_5 => ?_)
  · replace w := w.1 c_5
    refine jw_aload_n (pc' := 13) rfl rfl ?_
    refine jw_getR (pc' := 16) (F := 88) (t' := 64) rfl rfl rfl rfl rfl g_1 ?_
    refine jw_astore_n (pc' := 17) (ls' := [some (vR 15 r0), some (vR 64 (jfr h_2 88 r0))]) rfl (by decide) rfl ?_
    refine jw_aload_n (pc' := 18) rfl rfl ?_
    refine jw_cV (st := []) (sa := [vR 15 r0]) okX18_next rfl rfl rfl rfl rfl rfl (jstp_virtual (sa := []) (st := []) (k := 0) rfl rfl sX18_next okX18_next g_1 (one15.k g_1) rfl rfl) w (fun h_6 _ _ w => ?_)
    refine jw_aload_n (pc' := 22) rfl rfl ?_
    exact jw_areturn rfl rfl rfl rfl rfl w
  · replace w := w.2 c_5
    refine jw_aload_n (pc' := 8) rfl rfl ?_
    refine jw_cR (st := []) (sa := [vR 15 r0]) okX18_broken rfl rfl rfl rfl rfl rfl (jstp_virtual (sa := []) (st := []) (k := 0) rfl rfl sX18_broken okX18_broken g_1 (one15.k g_1) rfl rfl) w (fun v_11 h_9 _ _ _ w => ?_)
    obtain ⟨g_12, w⟩ := w
    exact jw_athrow rfl rfl g_12 w
def T_X18_name (D : JD) (d : Nat) (Q : JO → JH → Prop) (r0 : Nat) (h : JH) : Prop := W_X18_name_0 D d Q r0 h
theorem t_X18_name {D : JD} {d : Nat} {Q : JO → JH → Prop} {r0 : Nat} {h : JH} (w : T_X18_name D d Q r0 h) : cX18_name D (d + 1) r0 h Q := by
  unfold T_X18_name at w
  unfold cX18_name
  exact w_X18_name_0 w
def W_X18_isName_25 (D : JD) (d : Nat) (Q : JO → JH → Prop) (s0 : Int32) (h : JH) : Prop :=
  jbo s0 ∧ (Q (.inl (some (vI s0))) h)
theorem w_X18_isName_25 {D : JD} {d : Nat} {Q : JO → JH → Prop} {s0 : Int32} {h : JH} (w : W_X18_isName_25 D d Q s0 h) : JW D (d + 1) mX18_isName 25 [none] [vI s0] h Q := by
  unfold W_X18_isName_25 at w
  obtain ⟨g_1, w⟩ := w
  exact jw_ireturn rfl rfl (g_1.nr) w
def W_X18_isName_24 (D : JD) (d : Nat) (Q : JO → JH → Prop) (h : JH) : Prop :=
  W_X18_isName_25 D d Q (0 : Int32) h
theorem w_X18_isName_24 {D : JD} {d : Nat} {Q : JO → JH → Prop} {h : JH} (w : W_X18_isName_24 D d Q h) : JW D (d + 1) mX18_isName 24 [none] [] h Q := by
  unfold W_X18_isName_24 at w
  refine jw_iconst (pc' := 25) (x := (0 : Int32)) rfl rfl ?_
  exact w_X18_isName_25 w
def W_X18_isName_0 (D : JD) (d : Nat) (Q : JO → JH → Prop) (r0 : Nat) (h : JH) : Prop :=
  r0 ≠ 0 ∧ ((¬ (jfr h 86 r0) = (jcs D 351) → W_X18_isName_24 D d Q h) ∧ ((jfr h 86 r0) = (jcs D 351) → cX18_reserved D d (jfr h 88 r0) h (pI D h (fun v_5 h_3 => (¬ v_5 = 0 → W_X18_isName_24 D d Q h_3) ∧ (v_5 = 0 → W_X18_isName_25 D d Q (1 : Int32) h_3)) (jth Q))))
theorem w_X18_isName_0 {D : JD} {d : Nat} {Q : JO → JH → Prop} {r0 : Nat} {h : JH} (w : W_X18_isName_0 D d Q r0 h) : JW D (d + 1) mX18_isName 0 [some (vR 15 r0)] [] h Q := by
  unfold W_X18_isName_0 at w
  refine jw_aload_n (pc' := 1) rfl rfl ?_
  obtain ⟨g_1, w⟩ := w
  refine jw_getR (pc' := 4) (F := 86) (t' := 53) rfl rfl rfl rfl rfl g_1 ?_
  refine jw_getsR (pc' := 7) rfl rfl rfl rfl ?_
  refine jw_acmp_ne (tgt := 24) (pc' := 10) rfl rfl (fun c_2 => ?_) (fun c_2 => ?_)
  · replace w := w.1 c_2
    refine jw_gen (ls' := [none]) (st' := []) (trivial) (trivial) ?_
    exact w_X18_isName_24 w
  · replace w := w.2 c_2
    refine jw_aload_n (pc' := 11) rfl rfl ?_
    refine jw_getR (pc' := 14) (F := 88) (t' := 64) rfl rfl rfl rfl rfl g_1 ?_
    refine jw_cI (st := []) (sa := [vR 64 (jfr h 88 r0)]) okX18_reserved rfl rfl rfl rfl rfl rfl (jstp_static (sa := [vR 64 (jfr h 88 r0)]) (st := []) rfl rfl sX18_reserved okX18_reserved rfl rfl) w (fun v_5 h_3 _ _ w => ?_)
    refine jw_if_ne (tgt := 24) (pc' := 20) rfl rfl (fun c_6 => ?_) (fun c_6 => ?_)
    · replace w := w.1 c_6
      refine jw_gen (ls' := [none]) (st' := []) (trivial) (trivial) ?_
      exact w_X18_isName_24 w
    · replace w := w.2 c_6
      refine jw_iconst (pc' := 21) (x := (1 : Int32)) rfl rfl ?_
      refine jw_goto (pc' := 25) rfl rfl ?_
      refine jw_gen (ls' := [none]) (st' := [vI (1 : Int32)]) (trivial) (And.intro (Or.inl rfl) (trivial)) ?_
      exact w_X18_isName_25 w
def T_X18_isName (D : JD) (d : Nat) (Q : JO → JH → Prop) (r0 : Nat) (h : JH) : Prop := W_X18_isName_0 D d Q r0 h
theorem t_X18_isName {D : JD} {d : Nat} {Q : JO → JH → Prop} {r0 : Nat} {h : JH} (w : T_X18_isName D d Q r0 h) : cX18_isName D (d + 1) r0 h Q := by
  unfold T_X18_isName at w
  unfold cX18_isName
  exact w_X18_isName_0 w
def W_X18_reserved_1161 (D : JD) (d : Nat) (Q : JO → JH → Prop) (x2 : Int32) (h : JH) : Prop :=
  (x2 = (0 : Int32) → Q (.inl (some (vI (1 : Int32)))) h) ∧ (x2 = (1 : Int32) → Q (.inl (some (vI (1 : Int32)))) h) ∧ (x2 = (2 : Int32) → Q (.inl (some (vI (1 : Int32)))) h) ∧ (x2 = (3 : Int32) → Q (.inl (some (vI (1 : Int32)))) h) ∧ (x2 = (4 : Int32) → Q (.inl (some (vI (1 : Int32)))) h) ∧ (x2 = (5 : Int32) → Q (.inl (some (vI (1 : Int32)))) h) ∧ (x2 = (6 : Int32) → Q (.inl (some (vI (1 : Int32)))) h) ∧ (x2 = (7 : Int32) → Q (.inl (some (vI (1 : Int32)))) h) ∧ (x2 = (8 : Int32) → Q (.inl (some (vI (1 : Int32)))) h) ∧ (x2 = (9 : Int32) → Q (.inl (some (vI (1 : Int32)))) h) ∧ (x2 = (10 : Int32) → Q (.inl (some (vI (1 : Int32)))) h) ∧ (x2 = (11 : Int32) → Q (.inl (some (vI (1 : Int32)))) h) ∧ (x2 = (12 : Int32) → Q (.inl (some (vI (1 : Int32)))) h) ∧ (x2 = (13 : Int32) → Q (.inl (some (vI (1 : Int32)))) h) ∧ (x2 = (14 : Int32) → Q (.inl (some (vI (1 : Int32)))) h) ∧ (x2 = (15 : Int32) → Q (.inl (some (vI (1 : Int32)))) h) ∧ (x2 = (16 : Int32) → Q (.inl (some (vI (1 : Int32)))) h) ∧ (x2 = (17 : Int32) → Q (.inl (some (vI (1 : Int32)))) h) ∧ (x2 = (18 : Int32) → Q (.inl (some (vI (1 : Int32)))) h) ∧ (x2 = (19 : Int32) → Q (.inl (some (vI (1 : Int32)))) h) ∧ (x2 = (20 : Int32) → Q (.inl (some (vI (1 : Int32)))) h) ∧ (x2 = (21 : Int32) → Q (.inl (some (vI (1 : Int32)))) h) ∧ (x2 = (22 : Int32) → Q (.inl (some (vI (1 : Int32)))) h) ∧ (x2 = (23 : Int32) → Q (.inl (some (vI (1 : Int32)))) h) ∧ (x2 = (24 : Int32) → Q (.inl (some (vI (1 : Int32)))) h) ∧ (x2 = (25 : Int32) → Q (.inl (some (vI (1 : Int32)))) h) ∧ (x2 = (26 : Int32) → Q (.inl (some (vI (1 : Int32)))) h) ∧ (x2 = (27 : Int32) → Q (.inl (some (vI (1 : Int32)))) h) ∧ (x2 = (28 : Int32) → Q (.inl (some (vI (1 : Int32)))) h) ∧ (x2 = (29 : Int32) → Q (.inl (some (vI (1 : Int32)))) h) ∧ (x2 = (30 : Int32) → Q (.inl (some (vI (1 : Int32)))) h) ∧ (x2 = (31 : Int32) → Q (.inl (some (vI (1 : Int32)))) h) ∧ (x2 = (32 : Int32) → Q (.inl (some (vI (1 : Int32)))) h) ∧ (x2 = (33 : Int32) → Q (.inl (some (vI (1 : Int32)))) h) ∧ (x2 = (34 : Int32) → Q (.inl (some (vI (1 : Int32)))) h) ∧ (x2 = (35 : Int32) → Q (.inl (some (vI (1 : Int32)))) h) ∧ (x2 = (36 : Int32) → Q (.inl (some (vI (1 : Int32)))) h) ∧ (x2 = (37 : Int32) → Q (.inl (some (vI (1 : Int32)))) h) ∧ (x2 = (38 : Int32) → Q (.inl (some (vI (1 : Int32)))) h) ∧ (x2 = (39 : Int32) → Q (.inl (some (vI (1 : Int32)))) h) ∧ (x2 = (40 : Int32) → Q (.inl (some (vI (1 : Int32)))) h) ∧ (x2 = (41 : Int32) → Q (.inl (some (vI (1 : Int32)))) h) ∧ (x2 = (42 : Int32) → Q (.inl (some (vI (1 : Int32)))) h) ∧ (x2 = (43 : Int32) → Q (.inl (some (vI (1 : Int32)))) h) ∧ (x2 = (44 : Int32) → Q (.inl (some (vI (1 : Int32)))) h) ∧ (x2 = (45 : Int32) → Q (.inl (some (vI (1 : Int32)))) h) ∧ (x2 = (46 : Int32) → Q (.inl (some (vI (1 : Int32)))) h) ∧ (x2 = (47 : Int32) → Q (.inl (some (vI (1 : Int32)))) h) ∧ (x2 = (48 : Int32) → Q (.inl (some (vI (1 : Int32)))) h) ∧ (¬ x2 = (0 : Int32) → ¬ x2 = (1 : Int32) → ¬ x2 = (2 : Int32) → ¬ x2 = (3 : Int32) → ¬ x2 = (4 : Int32) → ¬ x2 = (5 : Int32) → ¬ x2 = (6 : Int32) → ¬ x2 = (7 : Int32) → ¬ x2 = (8 : Int32) → ¬ x2 = (9 : Int32) → ¬ x2 = (10 : Int32) → ¬ x2 = (11 : Int32) → ¬ x2 = (12 : Int32) → ¬ x2 = (13 : Int32) → ¬ x2 = (14 : Int32) → ¬ x2 = (15 : Int32) → ¬ x2 = (16 : Int32) → ¬ x2 = (17 : Int32) → ¬ x2 = (18 : Int32) → ¬ x2 = (19 : Int32) → ¬ x2 = (20 : Int32) → ¬ x2 = (21 : Int32) → ¬ x2 = (22 : Int32) → ¬ x2 = (23 : Int32) → ¬ x2 = (24 : Int32) → ¬ x2 = (25 : Int32) → ¬ x2 = (26 : Int32) → ¬ x2 = (27 : Int32) → ¬ x2 = (28 : Int32) → ¬ x2 = (29 : Int32) → ¬ x2 = (30 : Int32) → ¬ x2 = (31 : Int32) → ¬ x2 = (32 : Int32) → ¬ x2 = (33 : Int32) → ¬ x2 = (34 : Int32) → ¬ x2 = (35 : Int32) → ¬ x2 = (36 : Int32) → ¬ x2 = (37 : Int32) → ¬ x2 = (38 : Int32) → ¬ x2 = (39 : Int32) → ¬ x2 = (40 : Int32) → ¬ x2 = (41 : Int32) → ¬ x2 = (42 : Int32) → ¬ x2 = (43 : Int32) → ¬ x2 = (44 : Int32) → ¬ x2 = (45 : Int32) → ¬ x2 = (46 : Int32) → ¬ x2 = (47 : Int32) → ¬ x2 = (48 : Int32) → Q (.inl (some (vI (0 : Int32)))) h)
theorem w_X18_reserved_1161 {D : JD} {d : Nat} {Q : JO → JH → Prop} {x2 : Int32} {h : JH} (w : W_X18_reserved_1161 D d Q x2 h) : JW D (d + 1) mX18_reserved 1161 [none, none, some (vI x2)] [] h Q := by
  unfold W_X18_reserved_1161 at w
  refine jw_iload_n (pc' := 1162) rfl rfl ?_
  refine jw_tsw (cs := [((0 : Int32), 1372), ((1 : Int32), 1372), ((2 : Int32), 1372), ((3 : Int32), 1372), ((4 : Int32), 1372), ((5 : Int32), 1372), ((6 : Int32), 1372), ((7 : Int32), 1372), ((8 : Int32), 1372), ((9 : Int32), 1372), ((10 : Int32), 1372), ((11 : Int32), 1372), ((12 : Int32), 1372), ((13 : Int32), 1372), ((14 : Int32), 1372), ((15 : Int32), 1372), ((16 : Int32), 1372), ((17 : Int32), 1372), ((18 : Int32), 1372), ((19 : Int32), 1372), ((20 : Int32), 1372), ((21 : Int32), 1372), ((22 : Int32), 1372), ((23 : Int32), 1372), ((24 : Int32), 1372), ((25 : Int32), 1372), ((26 : Int32), 1372), ((27 : Int32), 1372), ((28 : Int32), 1372), ((29 : Int32), 1372), ((30 : Int32), 1372), ((31 : Int32), 1372), ((32 : Int32), 1372), ((33 : Int32), 1372), ((34 : Int32), 1372), ((35 : Int32), 1372), ((36 : Int32), 1372), ((37 : Int32), 1372), ((38 : Int32), 1372), ((39 : Int32), 1372), ((40 : Int32), 1372), ((41 : Int32), 1372), ((42 : Int32), 1372), ((43 : Int32), 1372), ((44 : Int32), 1372), ((45 : Int32), 1372), ((46 : Int32), 1372), ((47 : Int32), 1372), ((48 : Int32), 1372)]) (dt := 1374) rfl (by decide +kernel) ?_
  by_cases c_1 : x2 = (0 : Int32)
  · rw [jsw_hit c_1]
    replace w := w.1 c_1
    refine jw_iconst (pc' := 1373) (x := (1 : Int32)) rfl rfl ?_
    exact jw_ireturn rfl rfl (rfl) w
  · rw [jsw_miss c_1]
    replace w := w.2
    by_cases c_2 : x2 = (1 : Int32)
    · rw [jsw_hit c_2]
      replace w := w.1 c_2
      refine jw_iconst (pc' := 1373) (x := (1 : Int32)) rfl rfl ?_
      exact jw_ireturn rfl rfl (rfl) w
    · rw [jsw_miss c_2]
      replace w := w.2
      by_cases c_3 : x2 = (2 : Int32)
      · rw [jsw_hit c_3]
        replace w := w.1 c_3
        refine jw_iconst (pc' := 1373) (x := (1 : Int32)) rfl rfl ?_
        exact jw_ireturn rfl rfl (rfl) w
      · rw [jsw_miss c_3]
        replace w := w.2
        by_cases c_4 : x2 = (3 : Int32)
        · rw [jsw_hit c_4]
          replace w := w.1 c_4
          refine jw_iconst (pc' := 1373) (x := (1 : Int32)) rfl rfl ?_
          exact jw_ireturn rfl rfl (rfl) w
        · rw [jsw_miss c_4]
          replace w := w.2
          by_cases c_5 : x2 = (4 : Int32)
          · rw [jsw_hit c_5]
            replace w := w.1 c_5
            refine jw_iconst (pc' := 1373) (x := (1 : Int32)) rfl rfl ?_
            exact jw_ireturn rfl rfl (rfl) w
          · rw [jsw_miss c_5]
            replace w := w.2
            by_cases c_6 : x2 = (5 : Int32)
            · rw [jsw_hit c_6]
              replace w := w.1 c_6
              refine jw_iconst (pc' := 1373) (x := (1 : Int32)) rfl rfl ?_
              exact jw_ireturn rfl rfl (rfl) w
            · rw [jsw_miss c_6]
              replace w := w.2
              by_cases c_7 : x2 = (6 : Int32)
              · rw [jsw_hit c_7]
                replace w := w.1 c_7
                refine jw_iconst (pc' := 1373) (x := (1 : Int32)) rfl rfl ?_
                exact jw_ireturn rfl rfl (rfl) w
              · rw [jsw_miss c_7]
                replace w := w.2
                by_cases c_8 : x2 = (7 : Int32)
                · rw [jsw_hit c_8]
                  replace w := w.1 c_8
                  refine jw_iconst (pc' := 1373) (x := (1 : Int32)) rfl rfl ?_
                  exact jw_ireturn rfl rfl (rfl) w
                · rw [jsw_miss c_8]
                  replace w := w.2
                  by_cases c_9 : x2 = (8 : Int32)
                  · rw [jsw_hit c_9]
                    replace w := w.1 c_9
                    refine jw_iconst (pc' := 1373) (x := (1 : Int32)) rfl rfl ?_
                    exact jw_ireturn rfl rfl (rfl) w
                  · rw [jsw_miss c_9]
                    replace w := w.2
                    by_cases c_10 : x2 = (9 : Int32)
                    · rw [jsw_hit c_10]
                      replace w := w.1 c_10
                      refine jw_iconst (pc' := 1373) (x := (1 : Int32)) rfl rfl ?_
                      exact jw_ireturn rfl rfl (rfl) w
                    · rw [jsw_miss c_10]
                      replace w := w.2
                      by_cases c_11 : x2 = (10 : Int32)
                      · rw [jsw_hit c_11]
                        replace w := w.1 c_11
                        refine jw_iconst (pc' := 1373) (x := (1 : Int32)) rfl rfl ?_
                        exact jw_ireturn rfl rfl (rfl) w
                      · rw [jsw_miss c_11]
                        replace w := w.2
                        by_cases c_12 : x2 = (11 : Int32)
                        · rw [jsw_hit c_12]
                          replace w := w.1 c_12
                          refine jw_iconst (pc' := 1373) (x := (1 : Int32)) rfl rfl ?_
                          exact jw_ireturn rfl rfl (rfl) w
                        · rw [jsw_miss c_12]
                          replace w := w.2
                          by_cases c_13 : x2 = (12 : Int32)
                          · rw [jsw_hit c_13]
                            replace w := w.1 c_13
                            refine jw_iconst (pc' := 1373) (x := (1 : Int32)) rfl rfl ?_
                            exact jw_ireturn rfl rfl (rfl) w
                          · rw [jsw_miss c_13]
                            replace w := w.2
                            by_cases c_14 : x2 = (13 : Int32)
                            · rw [jsw_hit c_14]
                              replace w := w.1 c_14
                              refine jw_iconst (pc' := 1373) (x := (1 : Int32)) rfl rfl ?_
                              exact jw_ireturn rfl rfl (rfl) w
                            · rw [jsw_miss c_14]
                              replace w := w.2
                              by_cases c_15 : x2 = (14 : Int32)
                              · rw [jsw_hit c_15]
                                replace w := w.1 c_15
                                refine jw_iconst (pc' := 1373) (x := (1 : Int32)) rfl rfl ?_
                                exact jw_ireturn rfl rfl (rfl) w
                              · rw [jsw_miss c_15]
                                replace w := w.2
                                by_cases c_16 : x2 = (15 : Int32)
                                · rw [jsw_hit c_16]
                                  replace w := w.1 c_16
                                  refine jw_iconst (pc' := 1373) (x := (1 : Int32)) rfl rfl ?_
                                  exact jw_ireturn rfl rfl (rfl) w
                                · rw [jsw_miss c_16]
                                  replace w := w.2
                                  by_cases c_17 : x2 = (16 : Int32)
                                  · rw [jsw_hit c_17]
                                    replace w := w.1 c_17
                                    refine jw_iconst (pc' := 1373) (x := (1 : Int32)) rfl rfl ?_
                                    exact jw_ireturn rfl rfl (rfl) w
                                  · rw [jsw_miss c_17]
                                    replace w := w.2
                                    by_cases c_18 : x2 = (17 : Int32)
                                    · rw [jsw_hit c_18]
                                      replace w := w.1 c_18
                                      refine jw_iconst (pc' := 1373) (x := (1 : Int32)) rfl rfl ?_
                                      exact jw_ireturn rfl rfl (rfl) w
                                    · rw [jsw_miss c_18]
                                      replace w := w.2
                                      by_cases c_19 : x2 = (18 : Int32)
                                      · rw [jsw_hit c_19]
                                        replace w := w.1 c_19
                                        refine jw_iconst (pc' := 1373) (x := (1 : Int32)) rfl rfl ?_
                                        exact jw_ireturn rfl rfl (rfl) w
                                      · rw [jsw_miss c_19]
                                        replace w := w.2
                                        by_cases c_20 : x2 = (19 : Int32)
                                        · rw [jsw_hit c_20]
                                          replace w := w.1 c_20
                                          refine jw_iconst (pc' := 1373) (x := (1 : Int32)) rfl rfl ?_
                                          exact jw_ireturn rfl rfl (rfl) w
                                        · rw [jsw_miss c_20]
                                          replace w := w.2
                                          by_cases c_21 : x2 = (20 : Int32)
                                          · rw [jsw_hit c_21]
                                            replace w := w.1 c_21
                                            refine jw_iconst (pc' := 1373) (x := (1 : Int32)) rfl rfl ?_
                                            exact jw_ireturn rfl rfl (rfl) w
                                          · rw [jsw_miss c_21]
                                            replace w := w.2
                                            by_cases c_22 : x2 = (21 : Int32)
                                            · rw [jsw_hit c_22]
                                              replace w := w.1 c_22
                                              refine jw_iconst (pc' := 1373) (x := (1 : Int32)) rfl rfl ?_
                                              exact jw_ireturn rfl rfl (rfl) w
                                            · rw [jsw_miss c_22]
                                              replace w := w.2
                                              by_cases c_23 : x2 = (22 : Int32)
                                              · rw [jsw_hit c_23]
                                                replace w := w.1 c_23
                                                refine jw_iconst (pc' := 1373) (x := (1 : Int32)) rfl rfl ?_
                                                exact jw_ireturn rfl rfl (rfl) w
                                              · rw [jsw_miss c_23]
                                                replace w := w.2
                                                by_cases c_24 : x2 = (23 : Int32)
                                                · rw [jsw_hit c_24]
                                                  replace w := w.1 c_24
                                                  refine jw_iconst (pc' := 1373) (x := (1 : Int32)) rfl rfl ?_
                                                  exact jw_ireturn rfl rfl (rfl) w
                                                · rw [jsw_miss c_24]
                                                  replace w := w.2
                                                  by_cases c_25 : x2 = (24 : Int32)
                                                  · rw [jsw_hit c_25]
                                                    replace w := w.1 c_25
                                                    refine jw_iconst (pc' := 1373) (x := (1 : Int32)) rfl rfl ?_
                                                    exact jw_ireturn rfl rfl (rfl) w
                                                  · rw [jsw_miss c_25]
                                                    replace w := w.2
                                                    by_cases c_26 : x2 = (25 : Int32)
                                                    · rw [jsw_hit c_26]
                                                      replace w := w.1 c_26
                                                      refine jw_iconst (pc' := 1373) (x := (1 : Int32)) rfl rfl ?_
                                                      exact jw_ireturn rfl rfl (rfl) w
                                                    · rw [jsw_miss c_26]
                                                      replace w := w.2
                                                      by_cases c_27 : x2 = (26 : Int32)
                                                      · rw [jsw_hit c_27]
                                                        replace w := w.1 c_27
                                                        refine jw_iconst (pc' := 1373) (x := (1 : Int32)) rfl rfl ?_
                                                        exact jw_ireturn rfl rfl (rfl) w
                                                      · rw [jsw_miss c_27]
                                                        replace w := w.2
                                                        by_cases c_28 : x2 = (27 : Int32)
                                                        · rw [jsw_hit c_28]
                                                          replace w := w.1 c_28
                                                          refine jw_iconst (pc' := 1373) (x := (1 : Int32)) rfl rfl ?_
                                                          exact jw_ireturn rfl rfl (rfl) w
                                                        · rw [jsw_miss c_28]
                                                          replace w := w.2
                                                          by_cases c_29 : x2 = (28 : Int32)
                                                          · rw [jsw_hit c_29]
                                                            replace w := w.1 c_29
                                                            refine jw_iconst (pc' := 1373) (x := (1 : Int32)) rfl rfl ?_
                                                            exact jw_ireturn rfl rfl (rfl) w
                                                          · rw [jsw_miss c_29]
                                                            replace w := w.2
                                                            by_cases c_30 : x2 = (29 : Int32)
                                                            · rw [jsw_hit c_30]
                                                              replace w := w.1 c_30
                                                              refine jw_iconst (pc' := 1373) (x := (1 : Int32)) rfl rfl ?_
                                                              exact jw_ireturn rfl rfl (rfl) w
                                                            · rw [jsw_miss c_30]
                                                              replace w := w.2
                                                              by_cases c_31 : x2 = (30 : Int32)
                                                              · rw [jsw_hit c_31]
                                                                replace w := w.1 c_31
                                                                refine jw_iconst (pc' := 1373) (x := (1 : Int32)) rfl rfl ?_
                                                                exact jw_ireturn rfl rfl (rfl) w
                                                              · rw [jsw_miss c_31]
                                                                replace w := w.2
                                                                by_cases c_32 : x2 = (31 : Int32)
                                                                · rw [jsw_hit c_32]
                                                                  replace w := w.1 c_32
                                                                  refine jw_iconst (pc' := 1373) (x := (1 : Int32)) rfl rfl ?_
                                                                  exact jw_ireturn rfl rfl (rfl) w
                                                                · rw [jsw_miss c_32]
                                                                  replace w := w.2
                                                                  by_cases c_33 : x2 = (32 : Int32)
                                                                  · rw [jsw_hit c_33]
                                                                    replace w := w.1 c_33
                                                                    refine jw_iconst (pc' := 1373) (x := (1 : Int32)) rfl rfl ?_
                                                                    exact jw_ireturn rfl rfl (rfl) w
                                                                  · rw [jsw_miss c_33]
                                                                    replace w := w.2
                                                                    by_cases c_34 : x2 = (33 : Int32)
                                                                    · rw [jsw_hit c_34]
                                                                      replace w := w.1 c_34
                                                                      refine jw_iconst (pc' := 1373) (x := (1 : Int32)) rfl rfl ?_
                                                                      exact jw_ireturn rfl rfl (rfl) w
                                                                    · rw [jsw_miss c_34]
                                                                      replace w := w.2
                                                                      by_cases c_35 : x2 = (34 : Int32)
                                                                      · rw [jsw_hit c_35]
                                                                        replace w := w.1 c_35
                                                                        refine jw_iconst (pc' := 1373) (x := (1 : Int32)) rfl rfl ?_
                                                                        exact jw_ireturn rfl rfl (rfl) w
                                                                      · rw [jsw_miss c_35]
                                                                        replace w := w.2
                                                                        by_cases c_36 : x2 = (35 : Int32)
                                                                        · rw [jsw_hit c_36]
                                                                          replace w := w.1 c_36
                                                                          refine jw_iconst (pc' := 1373) (x := (1 : Int32)) rfl rfl ?_
                                                                          exact jw_ireturn rfl rfl (rfl) w
                                                                        · rw [jsw_miss c_36]
                                                                          replace w := w.2
                                                                          by_cases c_37 : x2 = (36 : Int32)
                                                                          · rw [jsw_hit c_37]
                                                                            replace w := w.1 c_37
                                                                            refine jw_iconst (pc' := 1373) (x := (1 : Int32)) rfl rfl ?_
                                                                            exact jw_ireturn rfl rfl (rfl) w
                                                                          · rw [jsw_miss c_37]
                                                                            replace w := w.2
                                                                            by_cases c_38 : x2 = (37 : Int32)
                                                                            · rw [jsw_hit c_38]
                                                                              replace w := w.1 c_38
                                                                              refine jw_iconst (pc' := 1373) (x := (1 : Int32)) rfl rfl ?_
                                                                              exact jw_ireturn rfl rfl (rfl) w
                                                                            · rw [jsw_miss c_38]
                                                                              replace w := w.2
                                                                              by_cases c_39 : x2 = (38 : Int32)
                                                                              · rw [jsw_hit c_39]
                                                                                replace w := w.1 c_39
                                                                                refine jw_iconst (pc' := 1373) (x := (1 : Int32)) rfl rfl ?_
                                                                                exact jw_ireturn rfl rfl (rfl) w
                                                                              · rw [jsw_miss c_39]
                                                                                replace w := w.2
                                                                                by_cases c_40 : x2 = (39 : Int32)
                                                                                · rw [jsw_hit c_40]
                                                                                  replace w := w.1 c_40
                                                                                  refine jw_iconst (pc' := 1373) (x := (1 : Int32)) rfl rfl ?_
                                                                                  exact jw_ireturn rfl rfl (rfl) w
                                                                                · rw [jsw_miss c_40]
                                                                                  replace w := w.2
                                                                                  by_cases c_41 : x2 = (40 : Int32)
                                                                                  · rw [jsw_hit c_41]
                                                                                    replace w := w.1 c_41
                                                                                    refine jw_iconst (pc' := 1373) (x := (1 : Int32)) rfl rfl ?_
                                                                                    exact jw_ireturn rfl rfl (rfl) w
                                                                                  · rw [jsw_miss c_41]
                                                                                    replace w := w.2
                                                                                    by_cases c_42 : x2 = (41 : Int32)
                                                                                    · rw [jsw_hit c_42]
                                                                                      replace w := w.1 c_42
                                                                                      refine jw_iconst (pc' := 1373) (x := (1 : Int32)) rfl rfl ?_
                                                                                      exact jw_ireturn rfl rfl (rfl) w
                                                                                    · rw [jsw_miss c_42]
                                                                                      replace w := w.2
                                                                                      by_cases c_43 : x2 = (42 : Int32)
                                                                                      · rw [jsw_hit c_43]
                                                                                        replace w := w.1 c_43
                                                                                        refine jw_iconst (pc' := 1373) (x := (1 : Int32)) rfl rfl ?_
                                                                                        exact jw_ireturn rfl rfl (rfl) w
                                                                                      · rw [jsw_miss c_43]
                                                                                        replace w := w.2
                                                                                        by_cases c_44 : x2 = (43 : Int32)
                                                                                        · rw [jsw_hit c_44]
                                                                                          replace w := w.1 c_44
                                                                                          refine jw_iconst (pc' := 1373) (x := (1 : Int32)) rfl rfl ?_
                                                                                          exact jw_ireturn rfl rfl (rfl) w
                                                                                        · rw [jsw_miss c_44]
                                                                                          replace w := w.2
                                                                                          by_cases c_45 : x2 = (44 : Int32)
                                                                                          · rw [jsw_hit c_45]
                                                                                            replace w := w.1 c_45
                                                                                            refine jw_iconst (pc' := 1373) (x := (1 : Int32)) rfl rfl ?_
                                                                                            exact jw_ireturn rfl rfl (rfl) w
                                                                                          · rw [jsw_miss c_45]
                                                                                            replace w := w.2
                                                                                            by_cases c_46 : x2 = (45 : Int32)
                                                                                            · rw [jsw_hit c_46]
                                                                                              replace w := w.1 c_46
                                                                                              refine jw_iconst (pc' := 1373) (x := (1 : Int32)) rfl rfl ?_
                                                                                              exact jw_ireturn rfl rfl (rfl) w
                                                                                            · rw [jsw_miss c_46]
                                                                                              replace w := w.2
                                                                                              by_cases c_47 : x2 = (46 : Int32)
                                                                                              · rw [jsw_hit c_47]
                                                                                                replace w := w.1 c_47
                                                                                                refine jw_iconst (pc' := 1373) (x := (1 : Int32)) rfl rfl ?_
                                                                                                exact jw_ireturn rfl rfl (rfl) w
                                                                                              · rw [jsw_miss c_47]
                                                                                                replace w := w.2
                                                                                                by_cases c_48 : x2 = (47 : Int32)
                                                                                                · rw [jsw_hit c_48]
                                                                                                  replace w := w.1 c_48
                                                                                                  refine jw_iconst (pc' := 1373) (x := (1 : Int32)) rfl rfl ?_
                                                                                                  exact jw_ireturn rfl rfl (rfl) w
                                                                                                · rw [jsw_miss c_48]
                                                                                                  replace w := w.2
                                                                                                  by_cases c_49 : x2 = (48 : Int32)
                                                                                                  · rw [jsw_hit c_49]
                                                                                                    replace w := w.1 c_49
                                                                                                    refine jw_iconst (pc' := 1373) (x := (1 : Int32)) rfl rfl ?_
                                                                                                    exact jw_ireturn rfl rfl (rfl) w
                                                                                                  · rw [jsw_miss c_49]
                                                                                                    replace w := w.2
                                                                                                    rw [jsw_nil]
                                                                                                    replace w := w c_1 c_2 c_3 c_4 c_5 c_6 c_7 c_8 c_9 c_10 c_11 c_12 c_13 c_14 c_15 c_16 c_17 c_18 c_19 c_20 c_21 c_22 c_23 c_24 c_25 c_26 c_27 c_28 c_29 c_30 c_31 c_32 c_33 c_34 c_35 c_36 c_37 c_38 c_39 c_40 c_41 c_42 c_43 c_44 c_45 c_46 c_47 c_48 c_49
                                                                                                    refine jw_iconst (pc' := 1375) (x := (0 : Int32)) rfl rfl ?_
                                                                                                    exact jw_ireturn rfl rfl (rfl) w
def W_X18_reserved_0 (D : JD) (d : Nat) (Q : JO → JH → Prop) (r0 : Nat) (h : JH) : Prop :=
  r0 ≠ 0 ∧ (cJ5_hashCode D d r0 h (pI D h (fun v_4 h_2 => (v_4 = (-1354815177 : Int32) → cJ5_equals D d r0 (jcs D 62) h_2 (pI D h_2 (fun v_8 h_6 => (v_8 = 0 → W_X18_reserved_1161 D d Q (-1 : Int32) h_6) ∧ (¬ v_8 = 0 → W_X18_reserved_1161 D d Q (20 : Int32) h_6)) (jth Q))) ∧ (v_4 = (-1352294148 : Int32) → cJ5_equals D d r0 (jcs D 42) h_2 (pI D h_2 (fun v_13 h_11 => (v_13 = 0 → W_X18_reserved_1161 D d Q (-1 : Int32) h_11) ∧ (¬ v_13 = 0 → W_X18_reserved_1161 D d Q (0 : Int32) h_11)) (jth Q))) ∧ (v_4 = (-1335458389 : Int32) → cJ5_equals D d r0 (jcs D 59) h_2 (pI D h_2 (fun v_18 h_16 => (v_18 = 0 → W_X18_reserved_1161 D d Q (-1 : Int32) h_16) ∧ (¬ v_18 = 0 → W_X18_reserved_1161 D d Q (17 : Int32) h_16)) (jth Q))) ∧ (v_4 = (-1224334299 : Int32) → cJ5_equals D d r0 (jcs D 71) h_2 (pI D h_2 (fun v_23 h_21 => (v_23 = 0 → W_X18_reserved_1161 D d Q (-1 : Int32) h_21) ∧ (¬ v_23 = 0 → W_X18_reserved_1161 D d Q (29 : Int32) h_21)) (jth Q))) ∧ (v_4 = (-1183792455 : Int32) → cJ5_equals D d r0 (jcs D 53) h_2 (pI D h_2 (fun v_28 h_26 => (v_28 = 0 → W_X18_reserved_1161 D d Q (-1 : Int32) h_26) ∧ (¬ v_28 = 0 → W_X18_reserved_1161 D d Q (11 : Int32) h_26)) (jth Q))) ∧ (v_4 = (-1019779949 : Int32) → cJ5_equals D d r0 (jcs D 76) h_2 (pI D h_2 (fun v_33 h_31 => (v_33 = 0 → W_X18_reserved_1161 D d Q (-1 : Int32) h_31) ∧ (¬ v_33 = 0 → W_X18_reserved_1161 D d Q (34 : Int32) h_31)) (jth Q))) ∧ (v_4 = (-906021636 : Int32) → cJ5_equals D d r0 (jcs D 64) h_2 (pI D h_2 (fun v_38 h_36 => (v_38 = 0 → W_X18_reserved_1161 D d Q (-1 : Int32) h_36) ∧ (¬ v_38 = 0 → W_X18_reserved_1161 D d Q (22 : Int32) h_36)) (jth Q))) ∧ (v_4 = (-840528943 : Int32) → cJ5_equals D d r0 (jcs D 49) h_2 (pI D h_2 (fun v_43 h_41 => (v_43 = 0 → W_X18_reserved_1161 D d Q (-1 : Int32) h_41) ∧ (¬ v_43 = 0 → W_X18_reserved_1161 D d Q (7 : Int32) h_41)) (jth Q))) ∧ (v_4 = (-838846263 : Int32) → cJ5_equals D d r0 (jcs D 56) h_2 (pI D h_2 (fun v_48 h_46 => (v_48 = 0 → W_X18_reserved_1161 D d Q (-1 : Int32) h_46) ∧ (¬ v_48 = 0 → W_X18_reserved_1161 D d Q (14 : Int32) h_46)) (jth Q))) ∧ (v_4 = (-823812830 : Int32) → cJ5_equals D d r0 (jcs D 55) h_2 (pI D h_2 (fun v_53 h_51 => (v_53 = 0 → W_X18_reserved_1161 D d Q (-1 : Int32) h_51) ∧ (¬ v_53 = 0 → W_X18_reserved_1161 D d Q (13 : Int32) h_51)) (jth Q))) ∧ (v_4 = (-314765822 : Int32) → cJ5_equals D d r0 (jcs D 50) h_2 (pI D h_2 (fun v_58 h_56 => (v_58 = 0 → W_X18_reserved_1161 D d Q (-1 : Int32) h_56) ∧ (¬ v_58 = 0 → W_X18_reserved_1161 D d Q (8 : Int32) h_56)) (jth Q))) ∧ (v_4 = (-259719452 : Int32) → cJ5_equals D d r0 (jcs D 63) h_2 (pI D h_2 (fun v_63 h_61 => (v_63 = 0 → W_X18_reserved_1161 D d Q (-1 : Int32) h_61) ∧ (¬ v_63 = 0 → W_X18_reserved_1161 D d Q (21 : Int32) h_61)) (jth Q))) ∧ (v_4 = (-216634360 : Int32) → cJ5_equals D d r0 (jcs D 83) h_2 (pI D h_2 (fun v_68 h_66 => (v_68 = 0 → W_X18_reserved_1161 D d Q (-1 : Int32) h_66) ∧ (¬ v_68 = 0 → W_X18_reserved_1161 D d Q (41 : Int32) h_66)) (jth Q))) ∧ (v_4 = (3122 : Int32) → cJ5_equals D d r0 (jcs D 77) h_2 (pI D h_2 (fun v_73 h_71 => (v_73 = 0 → W_X18_reserved_1161 D d Q (-1 : Int32) h_71) ∧ (¬ v_73 = 0 → W_X18_reserved_1161 D d Q (35 : Int32) h_71)) (jth Q))) ∧ (v_4 = (3159 : Int32) → cJ5_equals D d r0 (jcs D 70) h_2 (pI D h_2 (fun v_78 h_76 => (v_78 = 0 → W_X18_reserved_1161 D d Q (-1 : Int32) h_76) ∧ (¬ v_78 = 0 → W_X18_reserved_1161 D d Q (28 : Int32) h_76)) (jth Q))) ∧ (v_4 = (3365 : Int32) → cJ5_equals D d r0 (jcs D 81) h_2 (pI D h_2 (fun v_83 h_81 => (v_83 = 0 → W_X18_reserved_1161 D d Q (-1 : Int32) h_81) ∧ (¬ v_83 = 0 → W_X18_reserved_1161 D d Q (39 : Int32) h_81)) (jth Q))) ∧ (v_4 = (3370 : Int32) → cJ5_equals D d r0 (jcs D 80) h_2 (pI D h_2 (fun v_88 h_86 => (v_88 = 0 → W_X18_reserved_1161 D d Q (-1 : Int32) h_86) ∧ (¬ v_88 = 0 → W_X18_reserved_1161 D d Q (38 : Int32) h_86)) (jth Q))) ∧ (v_4 = (3551 : Int32) → cJ5_equals D d r0 (jcs D 68) h_2 (pI D h_2 (fun v_93 h_91 => (v_93 = 0 → W_X18_reserved_1161 D d Q (-1 : Int32) h_91) ∧ (¬ v_93 = 0 → W_X18_reserved_1161 D d Q (26 : Int32) h_91)) (jth Q))) ∧ (v_4 = (3555 : Int32) → cJ5_equals D d r0 (jcs D 78) h_2 (pI D h_2 (fun v_98 h_96 => (v_98 = 0 → W_X18_reserved_1161 D d Q (-1 : Int32) h_96) ∧ (¬ v_98 = 0 → W_X18_reserved_1161 D d Q (36 : Int32) h_96)) (jth Q))) ∧ (v_4 = (96727 : Int32) → cJ5_equals D d r0 (jcs D 79) h_2 (pI D h_2 (fun v_103 h_101 => (v_103 = 0 → W_X18_reserved_1161 D d Q (-1 : Int32) h_101) ∧ (¬ v_103 = 0 → W_X18_reserved_1161 D d Q (37 : Int32) h_101)) (jth Q))) ∧ (v_4 = (96881 : Int32) → cJ5_equals D d r0 (jcs D 73) h_2 (pI D h_2 (fun v_108 h_106 => (v_108 = 0 → W_X18_reserved_1161 D d Q (-1 : Int32) h_106) ∧ (¬ v_108 = 0 → W_X18_reserved_1161 D d Q (31 : Int32) h_106)) (jth Q))) ∧ (v_4 = (100571 : Int32) → cJ5_equals D d r0 (jcs D 90) h_2 (pI D h_2 (fun v_113 h_111 => (v_113 = 0 → W_X18_reserved_1161 D d Q (-1 : Int32) h_111) ∧ (¬ v_113 = 0 → W_X18_reserved_1161 D d Q (48 : Int32) h_111)) (jth Q))) ∧ (v_4 = (104431 : Int32) → cJ5_equals D d r0 (jcs D 44) h_2 (pI D h_2 (fun v_118 h_116 => (v_118 = 0 → W_X18_reserved_1161 D d Q (-1 : Int32) h_116) ∧ (¬ v_118 = 0 → W_X18_reserved_1161 D d Q (2 : Int32) h_116)) (jth Q))) ∧ (v_4 = (106079 : Int32) → cJ5_equals D d r0 (jcs D 51) h_2 (pI D h_2 (fun v_123 h_121 => (v_123 = 0 → W_X18_reserved_1161 D d Q (-1 : Int32) h_121) ∧ (¬ v_123 = 0 → W_X18_reserved_1161 D d Q (9 : Int32) h_121)) (jth Q))) ∧ (v_4 = (109267 : Int32) → cJ5_equals D d r0 (jcs D 47) h_2 (pI D h_2 (fun v_128 h_126 => (v_128 = 0 → W_X18_reserved_1161 D d Q (-1 : Int32) h_126) ∧ (¬ v_128 = 0 → W_X18_reserved_1161 D d Q (5 : Int32) h_126)) (jth Q))) ∧ (v_4 = (113762 : Int32) → cJ5_equals D d r0 (jcs D 57) h_2 (pI D h_2 (fun v_133 h_131 => (v_133 = 0 → W_X18_reserved_1161 D d Q (-1 : Int32) h_131) ∧ (¬ v_133 = 0 → W_X18_reserved_1161 D d Q (15 : Int32) h_131)) (jth Q))) ∧ (v_4 = (3029738 : Int32) → cJ5_equals D d r0 (jcs D 46) h_2 (pI D h_2 (fun v_138 h_136 => (v_138 = 0 → W_X18_reserved_1161 D d Q (-1 : Int32) h_136) ∧ (¬ v_138 = 0 → W_X18_reserved_1161 D d Q (4 : Int32) h_136)) (jth Q))) ∧ (v_4 = (3046192 : Int32) → cJ5_equals D d r0 (jcs D 86) h_2 (pI D h_2 (fun v_143 h_141 => (v_143 = 0 → W_X18_reserved_1161 D d Q (-1 : Int32) h_141) ∧ (¬ v_143 = 0 → W_X18_reserved_1161 D d Q (44 : Int32) h_141)) (jth Q))) ∧ (v_4 = (3079825 : Int32) → cJ5_equals D d r0 (jcs D 74) h_2 (pI D h_2 (fun v_148 h_146 => (v_148 = 0 → W_X18_reserved_1161 D d Q (-1 : Int32) h_146) ∧ (¬ v_148 = 0 → W_X18_reserved_1161 D d Q (32 : Int32) h_146)) (jth Q))) ∧ (v_4 = (3092207 : Int32) → cJ5_equals D d r0 (jcs D 52) h_2 (pI D h_2 (fun v_153 h_151 => (v_153 = 0 → W_X18_reserved_1161 D d Q (-1 : Int32) h_151) ∧ (¬ v_153 = 0 → W_X18_reserved_1161 D d Q (10 : Int32) h_151)) (jth Q))) ∧ (v_4 = (3116345 : Int32) → cJ5_equals D d r0 (jcs D 89) h_2 (pI D h_2 (fun v_158 h_156 => (v_158 = 0 → W_X18_reserved_1161 D d Q (-1 : Int32) h_156) ∧ (¬ v_158 = 0 → W_X18_reserved_1161 D d Q (47 : Int32) h_156)) (jth Q))) ∧ (v_4 = (3151786 : Int32) → cJ5_equals D d r0 (jcs D 60) h_2 (pI D h_2 (fun v_163 h_161 => (v_163 = 0 → W_X18_reserved_1161 D d Q (-1 : Int32) h_161) ∧ (¬ v_163 = 0 → W_X18_reserved_1161 D d Q (18 : Int32) h_161)) (jth Q))) ∧ (v_4 = (3237472 : Int32) → cJ5_equals D d r0 (jcs D 54) h_2 (pI D h_2 (fun v_168 h_166 => (v_168 = 0 → W_X18_reserved_1161 D d Q (-1 : Int32) h_166) ∧ (¬ v_168 = 0 → W_X18_reserved_1161 D d Q (12 : Int32) h_166)) (jth Q))) ∧ (v_4 = (3267882 : Int32) → cJ5_equals D d r0 (jcs D 67) h_2 (pI D h_2 (fun v_173 h_171 => (v_173 = 0 → W_X18_reserved_1161 D d Q (-1 : Int32) h_171) ∧ (¬ v_173 = 0 → W_X18_reserved_1161 D d Q (25 : Int32) h_171)) (jth Q))) ∧ (v_4 = (3317767 : Int32) → cJ5_equals D d r0 (jcs D 66) h_2 (pI D h_2 (fun v_178 h_176 => (v_178 = 0 → W_X18_reserved_1161 D d Q (-1 : Int32) h_176) ∧ (¬ v_178 = 0 → W_X18_reserved_1161 D d Q (24 : Int32) h_176)) (jth Q))) ∧ (v_4 = (3321751 : Int32) → cJ5_equals D d r0 (jcs D 82) h_2 (pI D h_2 (fun v_183 h_181 => (v_183 = 0 → W_X18_reserved_1161 D d Q (-1 : Int32) h_181) ∧ (¬ v_183 = 0 → W_X18_reserved_1161 D d Q (40 : Int32) h_181)) (jth Q))) ∧ (v_4 = (3392903 : Int32) → cJ5_equals D d r0 (jcs D 48) h_2 (pI D h_2 (fun v_188 h_186 => (v_188 = 0 → W_X18_reserved_1161 D d Q (-1 : Int32) h_186) ∧ (¬ v_188 = 0 → W_X18_reserved_1161 D d Q (6 : Int32) h_186)) (jth Q))) ∧ (v_4 = (3556653 : Int32) → cJ5_equals D d r0 (jcs D 45) h_2 (pI D h_2 (fun v_193 h_191 => (v_193 = 0 → W_X18_reserved_1161 D d Q (-1 : Int32) h_191) ∧ (¬ v_193 = 0 → W_X18_reserved_1161 D d Q (3 : Int32) h_191)) (jth Q))) ∧ (v_4 = (3558941 : Int32) → cJ5_equals D d r0 (jcs D 88) h_2 (pI D h_2 (fun v_198 h_196 => (v_198 = 0 → W_X18_reserved_1161 D d Q (-1 : Int32) h_196) ∧ (¬ v_198 = 0 → W_X18_reserved_1161 D d Q (46 : Int32) h_196)) (jth Q))) ∧ (v_4 = (3569038 : Int32) → cJ5_equals D d r0 (jcs D 84) h_2 (pI D h_2 (fun v_203 h_201 => (v_203 = 0 → W_X18_reserved_1161 D d Q (-1 : Int32) h_201) ∧ (¬ v_203 = 0 → W_X18_reserved_1161 D d Q (42 : Int32) h_201)) (jth Q))) ∧ (v_4 = (3648314 : Int32) → cJ5_equals D d r0 (jcs D 87) h_2 (pI D h_2 (fun v_208 h_206 => (v_208 = 0 → W_X18_reserved_1161 D d Q (-1 : Int32) h_206) ∧ (¬ v_208 = 0 → W_X18_reserved_1161 D d Q (45 : Int32) h_206)) (jth Q))) ∧ (v_4 = (93616297 : Int32) → cJ5_equals D d r0 (jcs D 61) h_2 (pI D h_2 (fun v_213 h_211 => (v_213 = 0 → W_X18_reserved_1161 D d Q (-1 : Int32) h_211) ∧ (¬ v_213 = 0 → W_X18_reserved_1161 D d Q (19 : Int32) h_211)) (jth Q))) ∧ (v_4 = (97196323 : Int32) → cJ5_equals D d r0 (jcs D 85) h_2 (pI D h_2 (fun v_218 h_216 => (v_218 = 0 → W_X18_reserved_1161 D d Q (-1 : Int32) h_216) ∧ (¬ v_218 = 0 → W_X18_reserved_1161 D d Q (43 : Int32) h_216)) (jth Q))) ∧ (v_4 = (98629247 : Int32) → cJ5_equals D d r0 (jcs D 69) h_2 (pI D h_2 (fun v_223 h_221 => (v_223 = 0 → W_X18_reserved_1161 D d Q (-1 : Int32) h_221) ∧ (¬ v_223 = 0 → W_X18_reserved_1161 D d Q (27 : Int32) h_221)) (jth Q))) ∧ (v_4 = (102976443 : Int32) → cJ5_equals D d r0 (jcs D 75) h_2 (pI D h_2 (fun v_228 h_226 => (v_228 = 0 → W_X18_reserved_1161 D d Q (-1 : Int32) h_226) ∧ (¬ v_228 = 0 → W_X18_reserved_1161 D d Q (33 : Int32) h_226)) (jth Q))) ∧ (v_4 = (106006350 : Int32) → cJ5_equals D d r0 (jcs D 72) h_2 (pI D h_2 (fun v_233 h_231 => (v_233 = 0 → W_X18_reserved_1161 D d Q (-1 : Int32) h_231) ∧ (¬ v_233 = 0 → W_X18_reserved_1161 D d Q (30 : Int32) h_231)) (jth Q))) ∧ (v_4 = (110115790 : Int32) → cJ5_equals D d r0 (jcs D 43) h_2 (pI D h_2 (fun v_238 h_236 => (v_238 = 0 → W_X18_reserved_1161 D d Q (-1 : Int32) h_236) ∧ (¬ v_238 = 0 → W_X18_reserved_1161 D d Q (1 : Int32) h_236)) (jth Q))) ∧ (v_4 = (113097959 : Int32) → cJ5_equals D d r0 (jcs D 58) h_2 (pI D h_2 (fun v_243 h_241 => (v_243 = 0 → W_X18_reserved_1161 D d Q (-1 : Int32) h_241) ∧ (¬ v_243 = 0 → W_X18_reserved_1161 D d Q (16 : Int32) h_241)) (jth Q))) ∧ (v_4 = (288698108 : Int32) → cJ5_equals D d r0 (jcs D 65) h_2 (pI D h_2 (fun v_248 h_246 => (v_248 = 0 → W_X18_reserved_1161 D d Q (-1 : Int32) h_246) ∧ (¬ v_248 = 0 → W_X18_reserved_1161 D d Q (23 : Int32) h_246)) (jth Q))) ∧ (¬ v_4 = (-1354815177 : Int32) → ¬ v_4 = (-1352294148 : Int32) → ¬ v_4 = (-1335458389 : Int32) → ¬ v_4 = (-1224334299 : Int32) → ¬ v_4 = (-1183792455 : Int32) → ¬ v_4 = (-1019779949 : Int32) → ¬ v_4 = (-906021636 : Int32) → ¬ v_4 = (-840528943 : Int32) → ¬ v_4 = (-838846263 : Int32) → ¬ v_4 = (-823812830 : Int32) → ¬ v_4 = (-314765822 : Int32) → ¬ v_4 = (-259719452 : Int32) → ¬ v_4 = (-216634360 : Int32) → ¬ v_4 = (3122 : Int32) → ¬ v_4 = (3159 : Int32) → ¬ v_4 = (3365 : Int32) → ¬ v_4 = (3370 : Int32) → ¬ v_4 = (3551 : Int32) → ¬ v_4 = (3555 : Int32) → ¬ v_4 = (96727 : Int32) → ¬ v_4 = (96881 : Int32) → ¬ v_4 = (100571 : Int32) → ¬ v_4 = (104431 : Int32) → ¬ v_4 = (106079 : Int32) → ¬ v_4 = (109267 : Int32) → ¬ v_4 = (113762 : Int32) → ¬ v_4 = (3029738 : Int32) → ¬ v_4 = (3046192 : Int32) → ¬ v_4 = (3079825 : Int32) → ¬ v_4 = (3092207 : Int32) → ¬ v_4 = (3116345 : Int32) → ¬ v_4 = (3151786 : Int32) → ¬ v_4 = (3237472 : Int32) → ¬ v_4 = (3267882 : Int32) → ¬ v_4 = (3317767 : Int32) → ¬ v_4 = (3321751 : Int32) → ¬ v_4 = (3392903 : Int32) → ¬ v_4 = (3556653 : Int32) → ¬ v_4 = (3558941 : Int32) → ¬ v_4 = (3569038 : Int32) → ¬ v_4 = (3648314 : Int32) → ¬ v_4 = (93616297 : Int32) → ¬ v_4 = (97196323 : Int32) → ¬ v_4 = (98629247 : Int32) → ¬ v_4 = (102976443 : Int32) → ¬ v_4 = (106006350 : Int32) → ¬ v_4 = (110115790 : Int32) → ¬ v_4 = (113097959 : Int32) → ¬ v_4 = (288698108 : Int32) → W_X18_reserved_1161 D d Q (-1 : Int32) h_2)) (jth Q)))
theorem w_X18_reserved_0 {D : JD} {d : Nat} {Q : JO → JH → Prop} {r0 : Nat} {h : JH} (w : W_X18_reserved_0 D d Q r0 h) : JW D (d + 1) mX18_reserved 0 [some (vR 64 r0), none, none] [] h Q := by
  unfold W_X18_reserved_0 at w
  refine jw_aload_n (pc' := 1) rfl rfl ?_
  refine jw_astore_n (pc' := 2) (ls' := [some (vR 64 r0), some (vR 64 r0), none]) rfl (by decide) rfl ?_
  refine jw_iconst (pc' := 3) (x := (-1 : Int32)) rfl rfl ?_
  refine jw_istore_n (pc' := 4) (ls' := [some (vR 64 r0), some (vR 64 r0), some (vI (-1 : Int32))]) rfl (by decide) rfl ?_
  refine jw_aload_n (pc' := 5) rfl rfl ?_
  obtain ⟨g_1, w⟩ := w
  refine jw_cI (st := []) (sa := [vR 64 r0]) okJ5_hashCode rfl rfl rfl rfl rfl rfl (jstp_virtual (sa := []) (st := []) (k := 0) rfl rfl sJ5_hashCode okJ5_hashCode g_1 (one64.k g_1) rfl rfl) w (fun v_4 h_2 _ _ w => ?_)
  refine jw_lsw (cs := [((-1354815177 : Int32), 706), ((-1352294148 : Int32), 412), ((-1335458389 : Int32), 661), ((-1224334299 : Int32), 844), ((-1183792455 : Int32), 571), ((-1019779949 : Int32), 924), ((-906021636 : Int32), 736), ((-840528943 : Int32), 511), ((-838846263 : Int32), 616), ((-823812830 : Int32), 601), ((-314765822 : Int32), 526), ((-259719452 : Int32), 721), ((-216634360 : Int32), 1036), ((3122 : Int32), 940), ((3159 : Int32), 828), ((3365 : Int32), 1004), ((3370 : Int32), 988), ((3551 : Int32), 796), ((3555 : Int32), 956), ((96727 : Int32), 972), ((96881 : Int32), 876), ((100571 : Int32), 1148), ((104431 : Int32), 440), ((106079 : Int32), 541), ((109267 : Int32), 482), ((113762 : Int32), 631), ((3029738 : Int32), 468), ((3046192 : Int32), 1084), ((3079825 : Int32), 892), ((3092207 : Int32), 556), ((3116345 : Int32), 1132), ((3151786 : Int32), 676), ((3237472 : Int32), 586), ((3267882 : Int32), 781), ((3317767 : Int32), 766), ((3321751 : Int32), 1020), ((3392903 : Int32), 496), ((3556653 : Int32), 454), ((3558941 : Int32), 1116), ((3569038 : Int32), 1052), ((3648314 : Int32), 1100), ((93616297 : Int32), 691), ((97196323 : Int32), 1068), ((98629247 : Int32), 812), ((102976443 : Int32), 908), ((106006350 : Int32), 860), ((110115790 : Int32), 426), ((113097959 : Int32), 646), ((288698108 : Int32), 751)]) (dt := 1161) rfl (by decide +kernel) (by decide +kernel) ?_
  by_cases c_5 : v_4 = (-1354815177 : Int32)
  · rw [jsw_hit c_5]
    replace w := w.1 c_5
    refine jw_aload_n (pc' := 707) rfl rfl ?_
    refine jw_ldcS (pc' := 709) rfl rfl rfl rfl ?_
    refine jw_cI (st := []) (sa := [vR 64 r0, vR 51 (jcs D 62)]) okJ5_equals rfl rfl rfl rfl rfl rfl (jstp_virtual (sa := [vR 51 (jcs D 62)]) (st := []) (k := 0) rfl rfl sJ5_equals okJ5_equals g_1 (one64.k g_1) rfl rfl) w (fun v_8 h_6 _ _ w => ?_)
    refine jw_if_eq (tgt := 1161) (pc' := 715) rfl rfl (fun c_9 => ?_) (fun c_9 => ?_)
    · replace w := w.1 c_9
      refine jw_gen (ls' := [none, none, some (vI (-1 : Int32))]) (st' := []) (And.intro (Or.inl rfl) (trivial)) (trivial) ?_
      exact w_X18_reserved_1161 w
    · replace w := w.2 c_9
      refine jw_bipush (pc' := 717) (x := (20 : Int32)) rfl rfl ?_
      refine jw_istore_n (pc' := 718) (ls' := [some (vR 64 r0), some (vR 64 r0), some (vI (20 : Int32))]) rfl (by decide) rfl ?_
      refine jw_goto (pc' := 1161) rfl rfl ?_
      refine jw_gen (ls' := [none, none, some (vI (20 : Int32))]) (st' := []) (And.intro (Or.inl rfl) (trivial)) (trivial) ?_
      exact w_X18_reserved_1161 w
  · rw [jsw_miss c_5]
    replace w := w.2
    by_cases c_10 : v_4 = (-1352294148 : Int32)
    · rw [jsw_hit c_10]
      replace w := w.1 c_10
      refine jw_aload_n (pc' := 413) rfl rfl ?_
      refine jw_ldcS (pc' := 415) rfl rfl rfl rfl ?_
      refine jw_cI (st := []) (sa := [vR 64 r0, vR 51 (jcs D 42)]) okJ5_equals rfl rfl rfl rfl rfl rfl (jstp_virtual (sa := [vR 51 (jcs D 42)]) (st := []) (k := 0) rfl rfl sJ5_equals okJ5_equals g_1 (one64.k g_1) rfl rfl) w (fun v_13 h_11 _ _ w => ?_)
      refine jw_if_eq (tgt := 1161) (pc' := 421) rfl rfl (fun c_14 => ?_) (fun c_14 => ?_)
      · replace w := w.1 c_14
        refine jw_gen (ls' := [none, none, some (vI (-1 : Int32))]) (st' := []) (And.intro (Or.inl rfl) (trivial)) (trivial) ?_
        exact w_X18_reserved_1161 w
      · replace w := w.2 c_14
        refine jw_iconst (pc' := 422) (x := (0 : Int32)) rfl rfl ?_
        refine jw_istore_n (pc' := 423) (ls' := [some (vR 64 r0), some (vR 64 r0), some (vI (0 : Int32))]) rfl (by decide) rfl ?_
        refine jw_goto (pc' := 1161) rfl rfl ?_
        refine jw_gen (ls' := [none, none, some (vI (0 : Int32))]) (st' := []) (And.intro (Or.inl rfl) (trivial)) (trivial) ?_
        exact w_X18_reserved_1161 w
    · rw [jsw_miss c_10]
      replace w := w.2
      by_cases c_15 : v_4 = (-1335458389 : Int32)
      · rw [jsw_hit c_15]
        replace w := w.1 c_15
        refine jw_aload_n (pc' := 662) rfl rfl ?_
        refine jw_ldcS (pc' := 664) rfl rfl rfl rfl ?_
        refine jw_cI (st := []) (sa := [vR 64 r0, vR 51 (jcs D 59)]) okJ5_equals rfl rfl rfl rfl rfl rfl (jstp_virtual (sa := [vR 51 (jcs D 59)]) (st := []) (k := 0) rfl rfl sJ5_equals okJ5_equals g_1 (one64.k g_1) rfl rfl) w (fun v_18 h_16 _ _ w => ?_)
        refine jw_if_eq (tgt := 1161) (pc' := 670) rfl rfl (fun c_19 => ?_) (fun c_19 => ?_)
        · replace w := w.1 c_19
          refine jw_gen (ls' := [none, none, some (vI (-1 : Int32))]) (st' := []) (And.intro (Or.inl rfl) (trivial)) (trivial) ?_
          exact w_X18_reserved_1161 w
        · replace w := w.2 c_19
          refine jw_bipush (pc' := 672) (x := (17 : Int32)) rfl rfl ?_
          refine jw_istore_n (pc' := 673) (ls' := [some (vR 64 r0), some (vR 64 r0), some (vI (17 : Int32))]) rfl (by decide) rfl ?_
          refine jw_goto (pc' := 1161) rfl rfl ?_
          refine jw_gen (ls' := [none, none, some (vI (17 : Int32))]) (st' := []) (And.intro (Or.inl rfl) (trivial)) (trivial) ?_
          exact w_X18_reserved_1161 w
      · rw [jsw_miss c_15]
        replace w := w.2
        by_cases c_20 : v_4 = (-1224334299 : Int32)
        · rw [jsw_hit c_20]
          replace w := w.1 c_20
          refine jw_aload_n (pc' := 845) rfl rfl ?_
          refine jw_ldcwS (pc' := 848) rfl rfl rfl rfl ?_
          refine jw_cI (st := []) (sa := [vR 64 r0, vR 51 (jcs D 71)]) okJ5_equals rfl rfl rfl rfl rfl rfl (jstp_virtual (sa := [vR 51 (jcs D 71)]) (st := []) (k := 0) rfl rfl sJ5_equals okJ5_equals g_1 (one64.k g_1) rfl rfl) w (fun v_23 h_21 _ _ w => ?_)
          refine jw_if_eq (tgt := 1161) (pc' := 854) rfl rfl (fun c_24 => ?_) (fun c_24 => ?_)
          · replace w := w.1 c_24
            refine jw_gen (ls' := [none, none, some (vI (-1 : Int32))]) (st' := []) (And.intro (Or.inl rfl) (trivial)) (trivial) ?_
            exact w_X18_reserved_1161 w
          · replace w := w.2 c_24
            refine jw_bipush (pc' := 856) (x := (29 : Int32)) rfl rfl ?_
            refine jw_istore_n (pc' := 857) (ls' := [some (vR 64 r0), some (vR 64 r0), some (vI (29 : Int32))]) rfl (by decide) rfl ?_
            refine jw_goto (pc' := 1161) rfl rfl ?_
            refine jw_gen (ls' := [none, none, some (vI (29 : Int32))]) (st' := []) (And.intro (Or.inl rfl) (trivial)) (trivial) ?_
            exact w_X18_reserved_1161 w
        · rw [jsw_miss c_20]
          replace w := w.2
          by_cases c_25 : v_4 = (-1183792455 : Int32)
          · rw [jsw_hit c_25]
            replace w := w.1 c_25
            refine jw_aload_n (pc' := 572) rfl rfl ?_
            refine jw_ldcS (pc' := 574) rfl rfl rfl rfl ?_
            refine jw_cI (st := []) (sa := [vR 64 r0, vR 51 (jcs D 53)]) okJ5_equals rfl rfl rfl rfl rfl rfl (jstp_virtual (sa := [vR 51 (jcs D 53)]) (st := []) (k := 0) rfl rfl sJ5_equals okJ5_equals g_1 (one64.k g_1) rfl rfl) w (fun v_28 h_26 _ _ w => ?_)
            refine jw_if_eq (tgt := 1161) (pc' := 580) rfl rfl (fun c_29 => ?_) (fun c_29 => ?_)
            · replace w := w.1 c_29
              refine jw_gen (ls' := [none, none, some (vI (-1 : Int32))]) (st' := []) (And.intro (Or.inl rfl) (trivial)) (trivial) ?_
              exact w_X18_reserved_1161 w
            · replace w := w.2 c_29
              refine jw_bipush (pc' := 582) (x := (11 : Int32)) rfl rfl ?_
              refine jw_istore_n (pc' := 583) (ls' := [some (vR 64 r0), some (vR 64 r0), some (vI (11 : Int32))]) rfl (by decide) rfl ?_
              refine jw_goto (pc' := 1161) rfl rfl ?_
              refine jw_gen (ls' := [none, none, some (vI (11 : Int32))]) (st' := []) (And.intro (Or.inl rfl) (trivial)) (trivial) ?_
              exact w_X18_reserved_1161 w
          · rw [jsw_miss c_25]
            replace w := w.2
            by_cases c_30 : v_4 = (-1019779949 : Int32)
            · rw [jsw_hit c_30]
              replace w := w.1 c_30
              refine jw_aload_n (pc' := 925) rfl rfl ?_
              refine jw_ldcwS (pc' := 928) rfl rfl rfl rfl ?_
              refine jw_cI (st := []) (sa := [vR 64 r0, vR 51 (jcs D 76)]) okJ5_equals rfl rfl rfl rfl rfl rfl (jstp_virtual (sa := [vR 51 (jcs D 76)]) (st := []) (k := 0) rfl rfl sJ5_equals okJ5_equals g_1 (one64.k g_1) rfl rfl) w (fun v_33 h_31 _ _ w => ?_)
              refine jw_if_eq (tgt := 1161) (pc' := 934) rfl rfl (fun c_34 => ?_) (fun c_34 => ?_)
              · replace w := w.1 c_34
                refine jw_gen (ls' := [none, none, some (vI (-1 : Int32))]) (st' := []) (And.intro (Or.inl rfl) (trivial)) (trivial) ?_
                exact w_X18_reserved_1161 w
              · replace w := w.2 c_34
                refine jw_bipush (pc' := 936) (x := (34 : Int32)) rfl rfl ?_
                refine jw_istore_n (pc' := 937) (ls' := [some (vR 64 r0), some (vR 64 r0), some (vI (34 : Int32))]) rfl (by decide) rfl ?_
                refine jw_goto (pc' := 1161) rfl rfl ?_
                refine jw_gen (ls' := [none, none, some (vI (34 : Int32))]) (st' := []) (And.intro (Or.inl rfl) (trivial)) (trivial) ?_
                exact w_X18_reserved_1161 w
            · rw [jsw_miss c_30]
              replace w := w.2
              by_cases c_35 : v_4 = (-906021636 : Int32)
              · rw [jsw_hit c_35]
                replace w := w.1 c_35
                refine jw_aload_n (pc' := 737) rfl rfl ?_
                refine jw_ldcS (pc' := 739) rfl rfl rfl rfl ?_
                refine jw_cI (st := []) (sa := [vR 64 r0, vR 51 (jcs D 64)]) okJ5_equals rfl rfl rfl rfl rfl rfl (jstp_virtual (sa := [vR 51 (jcs D 64)]) (st := []) (k := 0) rfl rfl sJ5_equals okJ5_equals g_1 (one64.k g_1) rfl rfl) w (fun v_38 h_36 _ _ w => ?_)
                refine jw_if_eq (tgt := 1161) (pc' := 745) rfl rfl (fun c_39 => ?_) (fun c_39 => ?_)
                · replace w := w.1 c_39
                  refine jw_gen (ls' := [none, none, some (vI (-1 : Int32))]) (st' := []) (And.intro (Or.inl rfl) (trivial)) (trivial) ?_
                  exact w_X18_reserved_1161 w
                · replace w := w.2 c_39
                  refine jw_bipush (pc' := 747) (x := (22 : Int32)) rfl rfl ?_
                  refine jw_istore_n (pc' := 748) (ls' := [some (vR 64 r0), some (vR 64 r0), some (vI (22 : Int32))]) rfl (by decide) rfl ?_
                  refine jw_goto (pc' := 1161) rfl rfl ?_
                  refine jw_gen (ls' := [none, none, some (vI (22 : Int32))]) (st' := []) (And.intro (Or.inl rfl) (trivial)) (trivial) ?_
                  exact w_X18_reserved_1161 w
              · rw [jsw_miss c_35]
                replace w := w.2
                by_cases c_40 : v_4 = (-840528943 : Int32)
                · rw [jsw_hit c_40]
                  replace w := w.1 c_40
                  refine jw_aload_n (pc' := 512) rfl rfl ?_
                  refine jw_ldcS (pc' := 514) rfl rfl rfl rfl ?_
                  refine jw_cI (st := []) (sa := [vR 64 r0, vR 51 (jcs D 49)]) okJ5_equals rfl rfl rfl rfl rfl rfl (jstp_virtual (sa := [vR 51 (jcs D 49)]) (st := []) (k := 0) rfl rfl sJ5_equals okJ5_equals g_1 (one64.k g_1) rfl rfl) w (fun v_43 h_41 _ _ w => ?_)
                  refine jw_if_eq (tgt := 1161) (pc' := 520) rfl rfl (fun c_44 => ?_) (fun c_44 => ?_)
                  · replace w := w.1 c_44
                    refine jw_gen (ls' := [none, none, some (vI (-1 : Int32))]) (st' := []) (And.intro (Or.inl rfl) (trivial)) (trivial) ?_
                    exact w_X18_reserved_1161 w
                  · replace w := w.2 c_44
                    refine jw_bipush (pc' := 522) (x := (7 : Int32)) rfl rfl ?_
                    refine jw_istore_n (pc' := 523) (ls' := [some (vR 64 r0), some (vR 64 r0), some (vI (7 : Int32))]) rfl (by decide) rfl ?_
                    refine jw_goto (pc' := 1161) rfl rfl ?_
                    refine jw_gen (ls' := [none, none, some (vI (7 : Int32))]) (st' := []) (And.intro (Or.inl rfl) (trivial)) (trivial) ?_
                    exact w_X18_reserved_1161 w
                · rw [jsw_miss c_40]
                  replace w := w.2
                  by_cases c_45 : v_4 = (-838846263 : Int32)
                  · rw [jsw_hit c_45]
                    replace w := w.1 c_45
                    refine jw_aload_n (pc' := 617) rfl rfl ?_
                    refine jw_ldcS (pc' := 619) rfl rfl rfl rfl ?_
                    refine jw_cI (st := []) (sa := [vR 64 r0, vR 51 (jcs D 56)]) okJ5_equals rfl rfl rfl rfl rfl rfl (jstp_virtual (sa := [vR 51 (jcs D 56)]) (st := []) (k := 0) rfl rfl sJ5_equals okJ5_equals g_1 (one64.k g_1) rfl rfl) w (fun v_48 h_46 _ _ w => ?_)
                    refine jw_if_eq (tgt := 1161) (pc' := 625) rfl rfl (fun c_49 => ?_) (fun c_49 => ?_)
                    · replace w := w.1 c_49
                      refine jw_gen (ls' := [none, none, some (vI (-1 : Int32))]) (st' := []) (And.intro (Or.inl rfl) (trivial)) (trivial) ?_
                      exact w_X18_reserved_1161 w
                    · replace w := w.2 c_49
                      refine jw_bipush (pc' := 627) (x := (14 : Int32)) rfl rfl ?_
                      refine jw_istore_n (pc' := 628) (ls' := [some (vR 64 r0), some (vR 64 r0), some (vI (14 : Int32))]) rfl (by decide) rfl ?_
                      refine jw_goto (pc' := 1161) rfl rfl ?_
                      refine jw_gen (ls' := [none, none, some (vI (14 : Int32))]) (st' := []) (And.intro (Or.inl rfl) (trivial)) (trivial) ?_
                      exact w_X18_reserved_1161 w
                  · rw [jsw_miss c_45]
                    replace w := w.2
                    by_cases c_50 : v_4 = (-823812830 : Int32)
                    · rw [jsw_hit c_50]
                      replace w := w.1 c_50
                      refine jw_aload_n (pc' := 602) rfl rfl ?_
                      refine jw_ldcS (pc' := 604) rfl rfl rfl rfl ?_
                      refine jw_cI (st := []) (sa := [vR 64 r0, vR 51 (jcs D 55)]) okJ5_equals rfl rfl rfl rfl rfl rfl (jstp_virtual (sa := [vR 51 (jcs D 55)]) (st := []) (k := 0) rfl rfl sJ5_equals okJ5_equals g_1 (one64.k g_1) rfl rfl) w (fun v_53 h_51 _ _ w => ?_)
                      refine jw_if_eq (tgt := 1161) (pc' := 610) rfl rfl (fun c_54 => ?_) (fun c_54 => ?_)
                      · replace w := w.1 c_54
                        refine jw_gen (ls' := [none, none, some (vI (-1 : Int32))]) (st' := []) (And.intro (Or.inl rfl) (trivial)) (trivial) ?_
                        exact w_X18_reserved_1161 w
                      · replace w := w.2 c_54
                        refine jw_bipush (pc' := 612) (x := (13 : Int32)) rfl rfl ?_
                        refine jw_istore_n (pc' := 613) (ls' := [some (vR 64 r0), some (vR 64 r0), some (vI (13 : Int32))]) rfl (by decide) rfl ?_
                        refine jw_goto (pc' := 1161) rfl rfl ?_
                        refine jw_gen (ls' := [none, none, some (vI (13 : Int32))]) (st' := []) (And.intro (Or.inl rfl) (trivial)) (trivial) ?_
                        exact w_X18_reserved_1161 w
                    · rw [jsw_miss c_50]
                      replace w := w.2
                      by_cases c_55 : v_4 = (-314765822 : Int32)
                      · rw [jsw_hit c_55]
                        replace w := w.1 c_55
                        refine jw_aload_n (pc' := 527) rfl rfl ?_
                        refine jw_ldcS (pc' := 529) rfl rfl rfl rfl ?_
                        refine jw_cI (st := []) (sa := [vR 64 r0, vR 51 (jcs D 50)]) okJ5_equals rfl rfl rfl rfl rfl rfl (jstp_virtual (sa := [vR 51 (jcs D 50)]) (st := []) (k := 0) rfl rfl sJ5_equals okJ5_equals g_1 (one64.k g_1) rfl rfl) w (fun v_58 h_56 _ _ w => ?_)
                        refine jw_if_eq (tgt := 1161) (pc' := 535) rfl rfl (fun c_59 => ?_) (fun c_59 => ?_)
                        · replace w := w.1 c_59
                          refine jw_gen (ls' := [none, none, some (vI (-1 : Int32))]) (st' := []) (And.intro (Or.inl rfl) (trivial)) (trivial) ?_
                          exact w_X18_reserved_1161 w
                        · replace w := w.2 c_59
                          refine jw_bipush (pc' := 537) (x := (8 : Int32)) rfl rfl ?_
                          refine jw_istore_n (pc' := 538) (ls' := [some (vR 64 r0), some (vR 64 r0), some (vI (8 : Int32))]) rfl (by decide) rfl ?_
                          refine jw_goto (pc' := 1161) rfl rfl ?_
                          refine jw_gen (ls' := [none, none, some (vI (8 : Int32))]) (st' := []) (And.intro (Or.inl rfl) (trivial)) (trivial) ?_
                          exact w_X18_reserved_1161 w
                      · rw [jsw_miss c_55]
                        replace w := w.2
                        by_cases c_60 : v_4 = (-259719452 : Int32)
                        · rw [jsw_hit c_60]
                          replace w := w.1 c_60
                          refine jw_aload_n (pc' := 722) rfl rfl ?_
                          refine jw_ldcS (pc' := 724) rfl rfl rfl rfl ?_
                          refine jw_cI (st := []) (sa := [vR 64 r0, vR 51 (jcs D 63)]) okJ5_equals rfl rfl rfl rfl rfl rfl (jstp_virtual (sa := [vR 51 (jcs D 63)]) (st := []) (k := 0) rfl rfl sJ5_equals okJ5_equals g_1 (one64.k g_1) rfl rfl) w (fun v_63 h_61 _ _ w => ?_)
                          refine jw_if_eq (tgt := 1161) (pc' := 730) rfl rfl (fun c_64 => ?_) (fun c_64 => ?_)
                          · replace w := w.1 c_64
                            refine jw_gen (ls' := [none, none, some (vI (-1 : Int32))]) (st' := []) (And.intro (Or.inl rfl) (trivial)) (trivial) ?_
                            exact w_X18_reserved_1161 w
                          · replace w := w.2 c_64
                            refine jw_bipush (pc' := 732) (x := (21 : Int32)) rfl rfl ?_
                            refine jw_istore_n (pc' := 733) (ls' := [some (vR 64 r0), some (vR 64 r0), some (vI (21 : Int32))]) rfl (by decide) rfl ?_
                            refine jw_goto (pc' := 1161) rfl rfl ?_
                            refine jw_gen (ls' := [none, none, some (vI (21 : Int32))]) (st' := []) (And.intro (Or.inl rfl) (trivial)) (trivial) ?_
                            exact w_X18_reserved_1161 w
                        · rw [jsw_miss c_60]
                          replace w := w.2
                          by_cases c_65 : v_4 = (-216634360 : Int32)
                          · rw [jsw_hit c_65]
                            replace w := w.1 c_65
                            refine jw_aload_n (pc' := 1037) rfl rfl ?_
                            refine jw_ldcwS (pc' := 1040) rfl rfl rfl rfl ?_
                            refine jw_cI (st := []) (sa := [vR 64 r0, vR 51 (jcs D 83)]) okJ5_equals rfl rfl rfl rfl rfl rfl (jstp_virtual (sa := [vR 51 (jcs D 83)]) (st := []) (k := 0) rfl rfl sJ5_equals okJ5_equals g_1 (one64.k g_1) rfl rfl) w (fun v_68 h_66 _ _ w => ?_)
                            refine jw_if_eq (tgt := 1161) (pc' := 1046) rfl rfl (fun c_69 => ?_) (fun c_69 => ?_)
                            · replace w := w.1 c_69
                              refine jw_gen (ls' := [none, none, some (vI (-1 : Int32))]) (st' := []) (And.intro (Or.inl rfl) (trivial)) (trivial) ?_
                              exact w_X18_reserved_1161 w
                            · replace w := w.2 c_69
                              refine jw_bipush (pc' := 1048) (x := (41 : Int32)) rfl rfl ?_
                              refine jw_istore_n (pc' := 1049) (ls' := [some (vR 64 r0), some (vR 64 r0), some (vI (41 : Int32))]) rfl (by decide) rfl ?_
                              refine jw_goto (pc' := 1161) rfl rfl ?_
                              refine jw_gen (ls' := [none, none, some (vI (41 : Int32))]) (st' := []) (And.intro (Or.inl rfl) (trivial)) (trivial) ?_
                              exact w_X18_reserved_1161 w
                          · rw [jsw_miss c_65]
                            replace w := w.2
                            by_cases c_70 : v_4 = (3122 : Int32)
                            · rw [jsw_hit c_70]
                              replace w := w.1 c_70
                              refine jw_aload_n (pc' := 941) rfl rfl ?_
                              refine jw_ldcwS (pc' := 944) rfl rfl rfl rfl ?_
                              refine jw_cI (st := []) (sa := [vR 64 r0, vR 51 (jcs D 77)]) okJ5_equals rfl rfl rfl rfl rfl rfl (jstp_virtual (sa := [vR 51 (jcs D 77)]) (st := []) (k := 0) rfl rfl sJ5_equals okJ5_equals g_1 (one64.k g_1) rfl rfl) w (fun v_73 h_71 _ _ w => ?_)
                              refine jw_if_eq (tgt := 1161) (pc' := 950) rfl rfl (fun c_74 => ?_) (fun c_74 => ?_)
                              · replace w := w.1 c_74
                                refine jw_gen (ls' := [none, none, some (vI (-1 : Int32))]) (st' := []) (And.intro (Or.inl rfl) (trivial)) (trivial) ?_
                                exact w_X18_reserved_1161 w
                              · replace w := w.2 c_74
                                refine jw_bipush (pc' := 952) (x := (35 : Int32)) rfl rfl ?_
                                refine jw_istore_n (pc' := 953) (ls' := [some (vR 64 r0), some (vR 64 r0), some (vI (35 : Int32))]) rfl (by decide) rfl ?_
                                refine jw_goto (pc' := 1161) rfl rfl ?_
                                refine jw_gen (ls' := [none, none, some (vI (35 : Int32))]) (st' := []) (And.intro (Or.inl rfl) (trivial)) (trivial) ?_
                                exact w_X18_reserved_1161 w
                            · rw [jsw_miss c_70]
                              replace w := w.2
                              by_cases c_75 : v_4 = (3159 : Int32)
                              · rw [jsw_hit c_75]
                                replace w := w.1 c_75
                                refine jw_aload_n (pc' := 829) rfl rfl ?_
                                refine jw_ldcwS (pc' := 832) rfl rfl rfl rfl ?_
                                refine jw_cI (st := []) (sa := [vR 64 r0, vR 51 (jcs D 70)]) okJ5_equals rfl rfl rfl rfl rfl rfl (jstp_virtual (sa := [vR 51 (jcs D 70)]) (st := []) (k := 0) rfl rfl sJ5_equals okJ5_equals g_1 (one64.k g_1) rfl rfl) w (fun v_78 h_76 _ _ w => ?_)
                                refine jw_if_eq (tgt := 1161) (pc' := 838) rfl rfl (fun c_79 => ?_) (fun c_79 => ?_)
                                · replace w := w.1 c_79
                                  refine jw_gen (ls' := [none, none, some (vI (-1 : Int32))]) (st' := []) (And.intro (Or.inl rfl) (trivial)) (trivial) ?_
                                  exact w_X18_reserved_1161 w
                                · replace w := w.2 c_79
                                  refine jw_bipush (pc' := 840) (x := (28 : Int32)) rfl rfl ?_
                                  refine jw_istore_n (pc' := 841) (ls' := [some (vR 64 r0), some (vR 64 r0), some (vI (28 : Int32))]) rfl (by decide) rfl ?_
                                  refine jw_goto (pc' := 1161) rfl rfl ?_
                                  refine jw_gen (ls' := [none, none, some (vI (28 : Int32))]) (st' := []) (And.intro (Or.inl rfl) (trivial)) (trivial) ?_
                                  exact w_X18_reserved_1161 w
                              · rw [jsw_miss c_75]
                                replace w := w.2
                                by_cases c_80 : v_4 = (3365 : Int32)
                                · rw [jsw_hit c_80]
                                  replace w := w.1 c_80
                                  refine jw_aload_n (pc' := 1005) rfl rfl ?_
                                  refine jw_ldcwS (pc' := 1008) rfl rfl rfl rfl ?_
                                  refine jw_cI (st := []) (sa := [vR 64 r0, vR 51 (jcs D 81)]) okJ5_equals rfl rfl rfl rfl rfl rfl (jstp_virtual (sa := [vR 51 (jcs D 81)]) (st := []) (k := 0) rfl rfl sJ5_equals okJ5_equals g_1 (one64.k g_1) rfl rfl) w (fun v_83 h_81 _ _ w => ?_)
                                  refine jw_if_eq (tgt := 1161) (pc' := 1014) rfl rfl (fun c_84 => ?_) (fun c_84 => ?_)
                                  · replace w := w.1 c_84
                                    refine jw_gen (ls' := [none, none, some (vI (-1 : Int32))]) (st' := []) (And.intro (Or.inl rfl) (trivial)) (trivial) ?_
                                    exact w_X18_reserved_1161 w
                                  · replace w := w.2 c_84
                                    refine jw_bipush (pc' := 1016) (x := (39 : Int32)) rfl rfl ?_
                                    refine jw_istore_n (pc' := 1017) (ls' := [some (vR 64 r0), some (vR 64 r0), some (vI (39 : Int32))]) rfl (by decide) rfl ?_
                                    refine jw_goto (pc' := 1161) rfl rfl ?_
                                    refine jw_gen (ls' := [none, none, some (vI (39 : Int32))]) (st' := []) (And.intro (Or.inl rfl) (trivial)) (trivial) ?_
                                    exact w_X18_reserved_1161 w
                                · rw [jsw_miss c_80]
                                  replace w := w.2
                                  by_cases c_85 : v_4 = (3370 : Int32)
                                  · rw [jsw_hit c_85]
                                    replace w := w.1 c_85
                                    refine jw_aload_n (pc' := 989) rfl rfl ?_
                                    refine jw_ldcwS (pc' := 992) rfl rfl rfl rfl ?_
                                    refine jw_cI (st := []) (sa := [vR 64 r0, vR 51 (jcs D 80)]) okJ5_equals rfl rfl rfl rfl rfl rfl (jstp_virtual (sa := [vR 51 (jcs D 80)]) (st := []) (k := 0) rfl rfl sJ5_equals okJ5_equals g_1 (one64.k g_1) rfl rfl) w (fun v_88 h_86 _ _ w => ?_)
                                    refine jw_if_eq (tgt := 1161) (pc' := 998) rfl rfl (fun c_89 => ?_) (fun c_89 => ?_)
                                    · replace w := w.1 c_89
                                      refine jw_gen (ls' := [none, none, some (vI (-1 : Int32))]) (st' := []) (And.intro (Or.inl rfl) (trivial)) (trivial) ?_
                                      exact w_X18_reserved_1161 w
                                    · replace w := w.2 c_89
                                      refine jw_bipush (pc' := 1000) (x := (38 : Int32)) rfl rfl ?_
                                      refine jw_istore_n (pc' := 1001) (ls' := [some (vR 64 r0), some (vR 64 r0), some (vI (38 : Int32))]) rfl (by decide) rfl ?_
                                      refine jw_goto (pc' := 1161) rfl rfl ?_
                                      refine jw_gen (ls' := [none, none, some (vI (38 : Int32))]) (st' := []) (And.intro (Or.inl rfl) (trivial)) (trivial) ?_
                                      exact w_X18_reserved_1161 w
                                  · rw [jsw_miss c_85]
                                    replace w := w.2
                                    by_cases c_90 : v_4 = (3551 : Int32)
                                    · rw [jsw_hit c_90]
                                      replace w := w.1 c_90
                                      refine jw_aload_n (pc' := 797) rfl rfl ?_
                                      refine jw_ldcwS (pc' := 800) rfl rfl rfl rfl ?_
                                      refine jw_cI (st := []) (sa := [vR 64 r0, vR 51 (jcs D 68)]) okJ5_equals rfl rfl rfl rfl rfl rfl (jstp_virtual (sa := [vR 51 (jcs D 68)]) (st := []) (k := 0) rfl rfl sJ5_equals okJ5_equals g_1 (one64.k g_1) rfl rfl) w (fun v_93 h_91 _ _ w => ?_)
                                      refine jw_if_eq (tgt := 1161) (pc' := 806) rfl rfl (fun c_94 => ?_) (fun c_94 => ?_)
                                      · replace w := w.1 c_94
                                        refine jw_gen (ls' := [none, none, some (vI (-1 : Int32))]) (st' := []) (And.intro (Or.inl rfl) (trivial)) (trivial) ?_
                                        exact w_X18_reserved_1161 w
                                      · replace w := w.2 c_94
                                        refine jw_bipush (pc' := 808) (x := (26 : Int32)) rfl rfl ?_
                                        refine jw_istore_n (pc' := 809) (ls' := [some (vR 64 r0), some (vR 64 r0), some (vI (26 : Int32))]) rfl (by decide) rfl ?_
                                        refine jw_goto (pc' := 1161) rfl rfl ?_
                                        refine jw_gen (ls' := [none, none, some (vI (26 : Int32))]) (st' := []) (And.intro (Or.inl rfl) (trivial)) (trivial) ?_
                                        exact w_X18_reserved_1161 w
                                    · rw [jsw_miss c_90]
                                      replace w := w.2
                                      by_cases c_95 : v_4 = (3555 : Int32)
                                      · rw [jsw_hit c_95]
                                        replace w := w.1 c_95
                                        refine jw_aload_n (pc' := 957) rfl rfl ?_
                                        refine jw_ldcwS (pc' := 960) rfl rfl rfl rfl ?_
                                        refine jw_cI (st := []) (sa := [vR 64 r0, vR 51 (jcs D 78)]) okJ5_equals rfl rfl rfl rfl rfl rfl (jstp_virtual (sa := [vR 51 (jcs D 78)]) (st := []) (k := 0) rfl rfl sJ5_equals okJ5_equals g_1 (one64.k g_1) rfl rfl) w (fun v_98 h_96 _ _ w => ?_)
                                        refine jw_if_eq (tgt := 1161) (pc' := 966) rfl rfl (fun c_99 => ?_) (fun c_99 => ?_)
                                        · replace w := w.1 c_99
                                          refine jw_gen (ls' := [none, none, some (vI (-1 : Int32))]) (st' := []) (And.intro (Or.inl rfl) (trivial)) (trivial) ?_
                                          exact w_X18_reserved_1161 w
                                        · replace w := w.2 c_99
                                          refine jw_bipush (pc' := 968) (x := (36 : Int32)) rfl rfl ?_
                                          refine jw_istore_n (pc' := 969) (ls' := [some (vR 64 r0), some (vR 64 r0), some (vI (36 : Int32))]) rfl (by decide) rfl ?_
                                          refine jw_goto (pc' := 1161) rfl rfl ?_
                                          refine jw_gen (ls' := [none, none, some (vI (36 : Int32))]) (st' := []) (And.intro (Or.inl rfl) (trivial)) (trivial) ?_
                                          exact w_X18_reserved_1161 w
                                      · rw [jsw_miss c_95]
                                        replace w := w.2
                                        by_cases c_100 : v_4 = (96727 : Int32)
                                        · rw [jsw_hit c_100]
                                          replace w := w.1 c_100
                                          refine jw_aload_n (pc' := 973) rfl rfl ?_
                                          refine jw_ldcwS (pc' := 976) rfl rfl rfl rfl ?_
                                          refine jw_cI (st := []) (sa := [vR 64 r0, vR 51 (jcs D 79)]) okJ5_equals rfl rfl rfl rfl rfl rfl (jstp_virtual (sa := [vR 51 (jcs D 79)]) (st := []) (k := 0) rfl rfl sJ5_equals okJ5_equals g_1 (one64.k g_1) rfl rfl) w (fun v_103 h_101 _ _ w => ?_)
                                          refine jw_if_eq (tgt := 1161) (pc' := 982) rfl rfl (fun c_104 => ?_) (fun c_104 => ?_)
                                          · replace w := w.1 c_104
                                            refine jw_gen (ls' := [none, none, some (vI (-1 : Int32))]) (st' := []) (And.intro (Or.inl rfl) (trivial)) (trivial) ?_
                                            exact w_X18_reserved_1161 w
                                          · replace w := w.2 c_104
                                            refine jw_bipush (pc' := 984) (x := (37 : Int32)) rfl rfl ?_
                                            refine jw_istore_n (pc' := 985) (ls' := [some (vR 64 r0), some (vR 64 r0), some (vI (37 : Int32))]) rfl (by decide) rfl ?_
                                            refine jw_goto (pc' := 1161) rfl rfl ?_
                                            refine jw_gen (ls' := [none, none, some (vI (37 : Int32))]) (st' := []) (And.intro (Or.inl rfl) (trivial)) (trivial) ?_
                                            exact w_X18_reserved_1161 w
                                        · rw [jsw_miss c_100]
                                          replace w := w.2
                                          by_cases c_105 : v_4 = (96881 : Int32)
                                          · rw [jsw_hit c_105]
                                            replace w := w.1 c_105
                                            refine jw_aload_n (pc' := 877) rfl rfl ?_
                                            refine jw_ldcwS (pc' := 880) rfl rfl rfl rfl ?_
                                            refine jw_cI (st := []) (sa := [vR 64 r0, vR 51 (jcs D 73)]) okJ5_equals rfl rfl rfl rfl rfl rfl (jstp_virtual (sa := [vR 51 (jcs D 73)]) (st := []) (k := 0) rfl rfl sJ5_equals okJ5_equals g_1 (one64.k g_1) rfl rfl) w (fun v_108 h_106 _ _ w => ?_)
                                            refine jw_if_eq (tgt := 1161) (pc' := 886) rfl rfl (fun c_109 => ?_) (fun c_109 => ?_)
                                            · replace w := w.1 c_109
                                              refine jw_gen (ls' := [none, none, some (vI (-1 : Int32))]) (st' := []) (And.intro (Or.inl rfl) (trivial)) (trivial) ?_
                                              exact w_X18_reserved_1161 w
                                            · replace w := w.2 c_109
                                              refine jw_bipush (pc' := 888) (x := (31 : Int32)) rfl rfl ?_
                                              refine jw_istore_n (pc' := 889) (ls' := [some (vR 64 r0), some (vR 64 r0), some (vI (31 : Int32))]) rfl (by decide) rfl ?_
                                              refine jw_goto (pc' := 1161) rfl rfl ?_
                                              refine jw_gen (ls' := [none, none, some (vI (31 : Int32))]) (st' := []) (And.intro (Or.inl rfl) (trivial)) (trivial) ?_
                                              exact w_X18_reserved_1161 w
                                          · rw [jsw_miss c_105]
                                            replace w := w.2
                                            by_cases c_110 : v_4 = (100571 : Int32)
                                            · rw [jsw_hit c_110]
                                              replace w := w.1 c_110
                                              refine jw_aload_n (pc' := 1149) rfl rfl ?_
                                              refine jw_ldcwS (pc' := 1152) rfl rfl rfl rfl ?_
                                              refine jw_cI (st := []) (sa := [vR 64 r0, vR 51 (jcs D 90)]) okJ5_equals rfl rfl rfl rfl rfl rfl (jstp_virtual (sa := [vR 51 (jcs D 90)]) (st := []) (k := 0) rfl rfl sJ5_equals okJ5_equals g_1 (one64.k g_1) rfl rfl) w (fun v_113 h_111 _ _ w => ?_)
                                              refine jw_if_eq (tgt := 1161) (pc' := 1158) rfl rfl (fun c_114 => ?_) (fun c_114 => ?_)
                                              · replace w := w.1 c_114
                                                refine jw_gen (ls' := [none, none, some (vI (-1 : Int32))]) (st' := []) (And.intro (Or.inl rfl) (trivial)) (trivial) ?_
                                                exact w_X18_reserved_1161 w
                                              · replace w := w.2 c_114
                                                refine jw_bipush (pc' := 1160) (x := (48 : Int32)) rfl rfl ?_
                                                refine jw_istore_n (pc' := 1161) (ls' := [some (vR 64 r0), some (vR 64 r0), some (vI (48 : Int32))]) rfl (by decide) rfl ?_
                                                refine jw_gen (ls' := [none, none, some (vI (48 : Int32))]) (st' := []) (And.intro (Or.inl rfl) (trivial)) (trivial) ?_
                                                exact w_X18_reserved_1161 w
                                            · rw [jsw_miss c_110]
                                              replace w := w.2
                                              by_cases c_115 : v_4 = (104431 : Int32)
                                              · rw [jsw_hit c_115]
                                                replace w := w.1 c_115
                                                refine jw_aload_n (pc' := 441) rfl rfl ?_
                                                refine jw_ldcS (pc' := 443) rfl rfl rfl rfl ?_
                                                refine jw_cI (st := []) (sa := [vR 64 r0, vR 51 (jcs D 44)]) okJ5_equals rfl rfl rfl rfl rfl rfl (jstp_virtual (sa := [vR 51 (jcs D 44)]) (st := []) (k := 0) rfl rfl sJ5_equals okJ5_equals g_1 (one64.k g_1) rfl rfl) w (fun v_118 h_116 _ _ w => ?_)
                                                refine jw_if_eq (tgt := 1161) (pc' := 449) rfl rfl (fun c_119 => ?_) (fun c_119 => ?_)
                                                · replace w := w.1 c_119
                                                  refine jw_gen (ls' := [none, none, some (vI (-1 : Int32))]) (st' := []) (And.intro (Or.inl rfl) (trivial)) (trivial) ?_
                                                  exact w_X18_reserved_1161 w
                                                · replace w := w.2 c_119
                                                  refine jw_iconst (pc' := 450) (x := (2 : Int32)) rfl rfl ?_
                                                  refine jw_istore_n (pc' := 451) (ls' := [some (vR 64 r0), some (vR 64 r0), some (vI (2 : Int32))]) rfl (by decide) rfl ?_
                                                  refine jw_goto (pc' := 1161) rfl rfl ?_
                                                  refine jw_gen (ls' := [none, none, some (vI (2 : Int32))]) (st' := []) (And.intro (Or.inl rfl) (trivial)) (trivial) ?_
                                                  exact w_X18_reserved_1161 w
                                              · rw [jsw_miss c_115]
                                                replace w := w.2
                                                by_cases c_120 : v_4 = (106079 : Int32)
                                                · rw [jsw_hit c_120]
                                                  replace w := w.1 c_120
                                                  refine jw_aload_n (pc' := 542) rfl rfl ?_
                                                  refine jw_ldcS (pc' := 544) rfl rfl rfl rfl ?_
                                                  refine jw_cI (st := []) (sa := [vR 64 r0, vR 51 (jcs D 51)]) okJ5_equals rfl rfl rfl rfl rfl rfl (jstp_virtual (sa := [vR 51 (jcs D 51)]) (st := []) (k := 0) rfl rfl sJ5_equals okJ5_equals g_1 (one64.k g_1) rfl rfl) w (fun v_123 h_121 _ _ w => ?_)
                                                  refine jw_if_eq (tgt := 1161) (pc' := 550) rfl rfl (fun c_124 => ?_) (fun c_124 => ?_)
                                                  · replace w := w.1 c_124
                                                    refine jw_gen (ls' := [none, none, some (vI (-1 : Int32))]) (st' := []) (And.intro (Or.inl rfl) (trivial)) (trivial) ?_
                                                    exact w_X18_reserved_1161 w
                                                  · replace w := w.2 c_124
                                                    refine jw_bipush (pc' := 552) (x := (9 : Int32)) rfl rfl ?_
                                                    refine jw_istore_n (pc' := 553) (ls' := [some (vR 64 r0), some (vR 64 r0), some (vI (9 : Int32))]) rfl (by decide) rfl ?_
                                                    refine jw_goto (pc' := 1161) rfl rfl ?_
                                                    refine jw_gen (ls' := [none, none, some (vI (9 : Int32))]) (st' := []) (And.intro (Or.inl rfl) (trivial)) (trivial) ?_
                                                    exact w_X18_reserved_1161 w
                                                · rw [jsw_miss c_120]
                                                  replace w := w.2
                                                  by_cases c_125 : v_4 = (109267 : Int32)
                                                  · rw [jsw_hit c_125]
                                                    replace w := w.1 c_125
                                                    refine jw_aload_n (pc' := 483) rfl rfl ?_
                                                    refine jw_ldcS (pc' := 485) rfl rfl rfl rfl ?_
                                                    refine jw_cI (st := []) (sa := [vR 64 r0, vR 51 (jcs D 47)]) okJ5_equals rfl rfl rfl rfl rfl rfl (jstp_virtual (sa := [vR 51 (jcs D 47)]) (st := []) (k := 0) rfl rfl sJ5_equals okJ5_equals g_1 (one64.k g_1) rfl rfl) w (fun v_128 h_126 _ _ w => ?_)
                                                    refine jw_if_eq (tgt := 1161) (pc' := 491) rfl rfl (fun c_129 => ?_) (fun c_129 => ?_)
                                                    · replace w := w.1 c_129
                                                      refine jw_gen (ls' := [none, none, some (vI (-1 : Int32))]) (st' := []) (And.intro (Or.inl rfl) (trivial)) (trivial) ?_
                                                      exact w_X18_reserved_1161 w
                                                    · replace w := w.2 c_129
                                                      refine jw_iconst (pc' := 492) (x := (5 : Int32)) rfl rfl ?_
                                                      refine jw_istore_n (pc' := 493) (ls' := [some (vR 64 r0), some (vR 64 r0), some (vI (5 : Int32))]) rfl (by decide) rfl ?_
                                                      refine jw_goto (pc' := 1161) rfl rfl ?_
                                                      refine jw_gen (ls' := [none, none, some (vI (5 : Int32))]) (st' := []) (And.intro (Or.inl rfl) (trivial)) (trivial) ?_
                                                      exact w_X18_reserved_1161 w
                                                  · rw [jsw_miss c_125]
                                                    replace w := w.2
                                                    by_cases c_130 : v_4 = (113762 : Int32)
                                                    · rw [jsw_hit c_130]
                                                      replace w := w.1 c_130
                                                      refine jw_aload_n (pc' := 632) rfl rfl ?_
                                                      refine jw_ldcS (pc' := 634) rfl rfl rfl rfl ?_
                                                      refine jw_cI (st := []) (sa := [vR 64 r0, vR 51 (jcs D 57)]) okJ5_equals rfl rfl rfl rfl rfl rfl (jstp_virtual (sa := [vR 51 (jcs D 57)]) (st := []) (k := 0) rfl rfl sJ5_equals okJ5_equals g_1 (one64.k g_1) rfl rfl) w (fun v_133 h_131 _ _ w => ?_)
                                                      refine jw_if_eq (tgt := 1161) (pc' := 640) rfl rfl (fun c_134 => ?_) (fun c_134 => ?_)
                                                      · replace w := w.1 c_134
                                                        refine jw_gen (ls' := [none, none, some (vI (-1 : Int32))]) (st' := []) (And.intro (Or.inl rfl) (trivial)) (trivial) ?_
                                                        exact w_X18_reserved_1161 w
                                                      · replace w := w.2 c_134
                                                        refine jw_bipush (pc' := 642) (x := (15 : Int32)) rfl rfl ?_
                                                        refine jw_istore_n (pc' := 643) (ls' := [some (vR 64 r0), some (vR 64 r0), some (vI (15 : Int32))]) rfl (by decide) rfl ?_
                                                        refine jw_goto (pc' := 1161) rfl rfl ?_
                                                        refine jw_gen (ls' := [none, none, some (vI (15 : Int32))]) (st' := []) (And.intro (Or.inl rfl) (trivial)) (trivial) ?_
                                                        exact w_X18_reserved_1161 w
                                                    · rw [jsw_miss c_130]
                                                      replace w := w.2
                                                      by_cases c_135 : v_4 = (3029738 : Int32)
                                                      · rw [jsw_hit c_135]
                                                        replace w := w.1 c_135
                                                        refine jw_aload_n (pc' := 469) rfl rfl ?_
                                                        refine jw_ldcS (pc' := 471) rfl rfl rfl rfl ?_
                                                        refine jw_cI (st := []) (sa := [vR 64 r0, vR 51 (jcs D 46)]) okJ5_equals rfl rfl rfl rfl rfl rfl (jstp_virtual (sa := [vR 51 (jcs D 46)]) (st := []) (k := 0) rfl rfl sJ5_equals okJ5_equals g_1 (one64.k g_1) rfl rfl) w (fun v_138 h_136 _ _ w => ?_)
                                                        refine jw_if_eq (tgt := 1161) (pc' := 477) rfl rfl (fun c_139 => ?_) (fun c_139 => ?_)
                                                        · replace w := w.1 c_139
                                                          refine jw_gen (ls' := [none, none, some (vI (-1 : Int32))]) (st' := []) (And.intro (Or.inl rfl) (trivial)) (trivial) ?_
                                                          exact w_X18_reserved_1161 w
                                                        · replace w := w.2 c_139
                                                          refine jw_iconst (pc' := 478) (x := (4 : Int32)) rfl rfl ?_
                                                          refine jw_istore_n (pc' := 479) (ls' := [some (vR 64 r0), some (vR 64 r0), some (vI (4 : Int32))]) rfl (by decide) rfl ?_
                                                          refine jw_goto (pc' := 1161) rfl rfl ?_
                                                          refine jw_gen (ls' := [none, none, some (vI (4 : Int32))]) (st' := []) (And.intro (Or.inl rfl) (trivial)) (trivial) ?_
                                                          exact w_X18_reserved_1161 w
                                                      · rw [jsw_miss c_135]
                                                        replace w := w.2
                                                        by_cases c_140 : v_4 = (3046192 : Int32)
                                                        · rw [jsw_hit c_140]
                                                          replace w := w.1 c_140
                                                          refine jw_aload_n (pc' := 1085) rfl rfl ?_
                                                          refine jw_ldcwS (pc' := 1088) rfl rfl rfl rfl ?_
                                                          refine jw_cI (st := []) (sa := [vR 64 r0, vR 51 (jcs D 86)]) okJ5_equals rfl rfl rfl rfl rfl rfl (jstp_virtual (sa := [vR 51 (jcs D 86)]) (st := []) (k := 0) rfl rfl sJ5_equals okJ5_equals g_1 (one64.k g_1) rfl rfl) w (fun v_143 h_141 _ _ w => ?_)
                                                          refine jw_if_eq (tgt := 1161) (pc' := 1094) rfl rfl (fun c_144 => ?_) (fun c_144 => ?_)
                                                          · replace w := w.1 c_144
                                                            refine jw_gen (ls' := [none, none, some (vI (-1 : Int32))]) (st' := []) (And.intro (Or.inl rfl) (trivial)) (trivial) ?_
                                                            exact w_X18_reserved_1161 w
                                                          · replace w := w.2 c_144
                                                            refine jw_bipush (pc' := 1096) (x := (44 : Int32)) rfl rfl ?_
                                                            refine jw_istore_n (pc' := 1097) (ls' := [some (vR 64 r0), some (vR 64 r0), some (vI (44 : Int32))]) rfl (by decide) rfl ?_
                                                            refine jw_goto (pc' := 1161) rfl rfl ?_
                                                            refine jw_gen (ls' := [none, none, some (vI (44 : Int32))]) (st' := []) (And.intro (Or.inl rfl) (trivial)) (trivial) ?_
                                                            exact w_X18_reserved_1161 w
                                                        · rw [jsw_miss c_140]
                                                          replace w := w.2
                                                          by_cases c_145 : v_4 = (3079825 : Int32)
                                                          · rw [jsw_hit c_145]
                                                            replace w := w.1 c_145
                                                            refine jw_aload_n (pc' := 893) rfl rfl ?_
                                                            refine jw_ldcwS (pc' := 896) rfl rfl rfl rfl ?_
                                                            refine jw_cI (st := []) (sa := [vR 64 r0, vR 51 (jcs D 74)]) okJ5_equals rfl rfl rfl rfl rfl rfl (jstp_virtual (sa := [vR 51 (jcs D 74)]) (st := []) (k := 0) rfl rfl sJ5_equals okJ5_equals g_1 (one64.k g_1) rfl rfl) w (fun v_148 h_146 _ _ w => ?_)
                                                            refine jw_if_eq (tgt := 1161) (pc' := 902) rfl rfl (fun c_149 => ?_) (fun c_149 => ?_)
                                                            · replace w := w.1 c_149
                                                              refine jw_gen (ls' := [none, none, some (vI (-1 : Int32))]) (st' := []) (And.intro (Or.inl rfl) (trivial)) (trivial) ?_
                                                              exact w_X18_reserved_1161 w
                                                            · replace w := w.2 c_149
                                                              refine jw_bipush (pc' := 904) (x := (32 : Int32)) rfl rfl ?_
                                                              refine jw_istore_n (pc' := 905) (ls' := [some (vR 64 r0), some (vR 64 r0), some (vI (32 : Int32))]) rfl (by decide) rfl ?_
                                                              refine jw_goto (pc' := 1161) rfl rfl ?_
                                                              refine jw_gen (ls' := [none, none, some (vI (32 : Int32))]) (st' := []) (And.intro (Or.inl rfl) (trivial)) (trivial) ?_
                                                              exact w_X18_reserved_1161 w
                                                          · rw [jsw_miss c_145]
                                                            replace w := w.2
                                                            by_cases c_150 : v_4 = (3092207 : Int32)
                                                            · rw [jsw_hit c_150]
                                                              replace w := w.1 c_150
                                                              refine jw_aload_n (pc' := 557) rfl rfl ?_
                                                              refine jw_ldcS (pc' := 559) rfl rfl rfl rfl ?_
                                                              refine jw_cI (st := []) (sa := [vR 64 r0, vR 51 (jcs D 52)]) okJ5_equals rfl rfl rfl rfl rfl rfl (jstp_virtual (sa := [vR 51 (jcs D 52)]) (st := []) (k := 0) rfl rfl sJ5_equals okJ5_equals g_1 (one64.k g_1) rfl rfl) w (fun v_153 h_151 _ _ w => ?_)
                                                              refine jw_if_eq (tgt := 1161) (pc' := 565) rfl rfl (fun c_154 => ?_) (fun c_154 => ?_)
                                                              · replace w := w.1 c_154
                                                                refine jw_gen (ls' := [none, none, some (vI (-1 : Int32))]) (st' := []) (And.intro (Or.inl rfl) (trivial)) (trivial) ?_
                                                                exact w_X18_reserved_1161 w
                                                              · replace w := w.2 c_154
                                                                refine jw_bipush (pc' := 567) (x := (10 : Int32)) rfl rfl ?_
                                                                refine jw_istore_n (pc' := 568) (ls' := [some (vR 64 r0), some (vR 64 r0), some (vI (10 : Int32))]) rfl (by decide) rfl ?_
                                                                refine jw_goto (pc' := 1161) rfl rfl ?_
                                                                refine jw_gen (ls' := [none, none, some (vI (10 : Int32))]) (st' := []) (And.intro (Or.inl rfl) (trivial)) (trivial) ?_
                                                                exact w_X18_reserved_1161 w
                                                            · rw [jsw_miss c_150]
                                                              replace w := w.2
                                                              by_cases c_155 : v_4 = (3116345 : Int32)
                                                              · rw [jsw_hit c_155]
                                                                replace w := w.1 c_155
                                                                refine jw_aload_n (pc' := 1133) rfl rfl ?_
                                                                refine jw_ldcwS (pc' := 1136) rfl rfl rfl rfl ?_
                                                                refine jw_cI (st := []) (sa := [vR 64 r0, vR 51 (jcs D 89)]) okJ5_equals rfl rfl rfl rfl rfl rfl (jstp_virtual (sa := [vR 51 (jcs D 89)]) (st := []) (k := 0) rfl rfl sJ5_equals okJ5_equals g_1 (one64.k g_1) rfl rfl) w (fun v_158 h_156 _ _ w => ?_)
                                                                refine jw_if_eq (tgt := 1161) (pc' := 1142) rfl rfl (fun c_159 => ?_) (fun c_159 => ?_)
                                                                · replace w := w.1 c_159
                                                                  refine jw_gen (ls' := [none, none, some (vI (-1 : Int32))]) (st' := []) (And.intro (Or.inl rfl) (trivial)) (trivial) ?_
                                                                  exact w_X18_reserved_1161 w
                                                                · replace w := w.2 c_159
                                                                  refine jw_bipush (pc' := 1144) (x := (47 : Int32)) rfl rfl ?_
                                                                  refine jw_istore_n (pc' := 1145) (ls' := [some (vR 64 r0), some (vR 64 r0), some (vI (47 : Int32))]) rfl (by decide) rfl ?_
                                                                  refine jw_goto (pc' := 1161) rfl rfl ?_
                                                                  refine jw_gen (ls' := [none, none, some (vI (47 : Int32))]) (st' := []) (And.intro (Or.inl rfl) (trivial)) (trivial) ?_
                                                                  exact w_X18_reserved_1161 w
                                                              · rw [jsw_miss c_155]
                                                                replace w := w.2
                                                                by_cases c_160 : v_4 = (3151786 : Int32)
                                                                · rw [jsw_hit c_160]
                                                                  replace w := w.1 c_160
                                                                  refine jw_aload_n (pc' := 677) rfl rfl ?_
                                                                  refine jw_ldcS (pc' := 679) rfl rfl rfl rfl ?_
                                                                  refine jw_cI (st := []) (sa := [vR 64 r0, vR 51 (jcs D 60)]) okJ5_equals rfl rfl rfl rfl rfl rfl (jstp_virtual (sa := [vR 51 (jcs D 60)]) (st := []) (k := 0) rfl rfl sJ5_equals okJ5_equals g_1 (one64.k g_1) rfl rfl) w (fun v_163 h_161 _ _ w => ?_)
                                                                  refine jw_if_eq (tgt := 1161) (pc' := 685) rfl rfl (fun c_164 => ?_) (fun c_164 => ?_)
                                                                  · replace w := w.1 c_164
                                                                    refine jw_gen (ls' := [none, none, some (vI (-1 : Int32))]) (st' := []) (And.intro (Or.inl rfl) (trivial)) (trivial) ?_
                                                                    exact w_X18_reserved_1161 w
                                                                  · replace w := w.2 c_164
                                                                    refine jw_bipush (pc' := 687) (x := (18 : Int32)) rfl rfl ?_
                                                                    refine jw_istore_n (pc' := 688) (ls' := [some (vR 64 r0), some (vR 64 r0), some (vI (18 : Int32))]) rfl (by decide) rfl ?_
                                                                    refine jw_goto (pc' := 1161) rfl rfl ?_
                                                                    refine jw_gen (ls' := [none, none, some (vI (18 : Int32))]) (st' := []) (And.intro (Or.inl rfl) (trivial)) (trivial) ?_
                                                                    exact w_X18_reserved_1161 w
                                                                · rw [jsw_miss c_160]
                                                                  replace w := w.2
                                                                  by_cases c_165 : v_4 = (3237472 : Int32)
                                                                  · rw [jsw_hit c_165]
                                                                    replace w := w.1 c_165
                                                                    refine jw_aload_n (pc' := 587) rfl rfl ?_
                                                                    refine jw_ldcS (pc' := 589) rfl rfl rfl rfl ?_
                                                                    refine jw_cI (st := []) (sa := [vR 64 r0, vR 51 (jcs D 54)]) okJ5_equals rfl rfl rfl rfl rfl rfl (jstp_virtual (sa := [vR 51 (jcs D 54)]) (st := []) (k := 0) rfl rfl sJ5_equals okJ5_equals g_1 (one64.k g_1) rfl rfl) w (fun v_168 h_166 _ _ w => ?_)
                                                                    refine jw_if_eq (tgt := 1161) (pc' := 595) rfl rfl (fun c_169 => ?_) (fun c_169 => ?_)
                                                                    · replace w := w.1 c_169
                                                                      refine jw_gen (ls' := [none, none, some (vI (-1 : Int32))]) (st' := []) (And.intro (Or.inl rfl) (trivial)) (trivial) ?_
                                                                      exact w_X18_reserved_1161 w
                                                                    · replace w := w.2 c_169
                                                                      refine jw_bipush (pc' := 597) (x := (12 : Int32)) rfl rfl ?_
                                                                      refine jw_istore_n (pc' := 598) (ls' := [some (vR 64 r0), some (vR 64 r0), some (vI (12 : Int32))]) rfl (by decide) rfl ?_
                                                                      refine jw_goto (pc' := 1161) rfl rfl ?_
                                                                      refine jw_gen (ls' := [none, none, some (vI (12 : Int32))]) (st' := []) (And.intro (Or.inl rfl) (trivial)) (trivial) ?_
                                                                      exact w_X18_reserved_1161 w
                                                                  · rw [jsw_miss c_165]
                                                                    replace w := w.2
                                                                    by_cases c_170 : v_4 = (3267882 : Int32)
                                                                    · rw [jsw_hit c_170]
                                                                      replace w := w.1 c_170
                                                                      refine jw_aload_n (pc' := 782) rfl rfl ?_
                                                                      refine jw_ldcS (pc' := 784) rfl rfl rfl rfl ?_
                                                                      refine jw_cI (st := []) (sa := [vR 64 r0, vR 51 (jcs D 67)]) okJ5_equals rfl rfl rfl rfl rfl rfl (jstp_virtual (sa := [vR 51 (jcs D 67)]) (st := []) (k := 0) rfl rfl sJ5_equals okJ5_equals g_1 (one64.k g_1) rfl rfl) w (fun v_173 h_171 _ _ w => ?_)
                                                                      refine jw_if_eq (tgt := 1161) (pc' := 790) rfl rfl (fun c_174 => ?_) (fun c_174 => ?_)
                                                                      · replace w := w.1 c_174
                                                                        refine jw_gen (ls' := [none, none, some (vI (-1 : Int32))]) (st' := []) (And.intro (Or.inl rfl) (trivial)) (trivial) ?_
                                                                        exact w_X18_reserved_1161 w
                                                                      · replace w := w.2 c_174
                                                                        refine jw_bipush (pc' := 792) (x := (25 : Int32)) rfl rfl ?_
                                                                        refine jw_istore_n (pc' := 793) (ls' := [some (vR 64 r0), some (vR 64 r0), some (vI (25 : Int32))]) rfl (by decide) rfl ?_
                                                                        refine jw_goto (pc' := 1161) rfl rfl ?_
                                                                        refine jw_gen (ls' := [none, none, some (vI (25 : Int32))]) (st' := []) (And.intro (Or.inl rfl) (trivial)) (trivial) ?_
                                                                        exact w_X18_reserved_1161 w
                                                                    · rw [jsw_miss c_170]
                                                                      replace w := w.2
                                                                      by_cases c_175 : v_4 = (3317767 : Int32)
                                                                      · rw [jsw_hit c_175]
                                                                        replace w := w.1 c_175
                                                                        refine jw_aload_n (pc' := 767) rfl rfl ?_
                                                                        refine jw_ldcS (pc' := 769) rfl rfl rfl rfl ?_
                                                                        refine jw_cI (st := []) (sa := [vR 64 r0, vR 51 (jcs D 66)]) okJ5_equals rfl rfl rfl rfl rfl rfl (jstp_virtual (sa := [vR 51 (jcs D 66)]) (st := []) (k := 0) rfl rfl sJ5_equals okJ5_equals g_1 (one64.k g_1) rfl rfl) w (fun v_178 h_176 _ _ w => ?_)
                                                                        refine jw_if_eq (tgt := 1161) (pc' := 775) rfl rfl (fun c_179 => ?_) (fun c_179 => ?_)
                                                                        · replace w := w.1 c_179
                                                                          refine jw_gen (ls' := [none, none, some (vI (-1 : Int32))]) (st' := []) (And.intro (Or.inl rfl) (trivial)) (trivial) ?_
                                                                          exact w_X18_reserved_1161 w
                                                                        · replace w := w.2 c_179
                                                                          refine jw_bipush (pc' := 777) (x := (24 : Int32)) rfl rfl ?_
                                                                          refine jw_istore_n (pc' := 778) (ls' := [some (vR 64 r0), some (vR 64 r0), some (vI (24 : Int32))]) rfl (by decide) rfl ?_
                                                                          refine jw_goto (pc' := 1161) rfl rfl ?_
                                                                          refine jw_gen (ls' := [none, none, some (vI (24 : Int32))]) (st' := []) (And.intro (Or.inl rfl) (trivial)) (trivial) ?_
                                                                          exact w_X18_reserved_1161 w
                                                                      · rw [jsw_miss c_175]
                                                                        replace w := w.2
                                                                        by_cases c_180 : v_4 = (3321751 : Int32)
                                                                        · rw [jsw_hit c_180]
                                                                          replace w := w.1 c_180
                                                                          refine jw_aload_n (pc' := 1021) rfl rfl ?_
                                                                          refine jw_ldcwS (pc' := 1024) rfl rfl rfl rfl ?_
                                                                          refine jw_cI (st := []) (sa := [vR 64 r0, vR 51 (jcs D 82)]) okJ5_equals rfl rfl rfl rfl rfl rfl (jstp_virtual (sa := [vR 51 (jcs D 82)]) (st := []) (k := 0) rfl rfl sJ5_equals okJ5_equals g_1 (one64.k g_1) rfl rfl) w (fun v_183 h_181 _ _ w => ?_)
                                                                          refine jw_if_eq (tgt := 1161) (pc' := 1030) rfl rfl (fun c_184 => ?_) (fun c_184 => ?_)
                                                                          · replace w := w.1 c_184
                                                                            refine jw_gen (ls' := [none, none, some (vI (-1 : Int32))]) (st' := []) (And.intro (Or.inl rfl) (trivial)) (trivial) ?_
                                                                            exact w_X18_reserved_1161 w
                                                                          · replace w := w.2 c_184
                                                                            refine jw_bipush (pc' := 1032) (x := (40 : Int32)) rfl rfl ?_
                                                                            refine jw_istore_n (pc' := 1033) (ls' := [some (vR 64 r0), some (vR 64 r0), some (vI (40 : Int32))]) rfl (by decide) rfl ?_
                                                                            refine jw_goto (pc' := 1161) rfl rfl ?_
                                                                            refine jw_gen (ls' := [none, none, some (vI (40 : Int32))]) (st' := []) (And.intro (Or.inl rfl) (trivial)) (trivial) ?_
                                                                            exact w_X18_reserved_1161 w
                                                                        · rw [jsw_miss c_180]
                                                                          replace w := w.2
                                                                          by_cases c_185 : v_4 = (3392903 : Int32)
                                                                          · rw [jsw_hit c_185]
                                                                            replace w := w.1 c_185
                                                                            refine jw_aload_n (pc' := 497) rfl rfl ?_
                                                                            refine jw_ldcS (pc' := 499) rfl rfl rfl rfl ?_
                                                                            refine jw_cI (st := []) (sa := [vR 64 r0, vR 51 (jcs D 48)]) okJ5_equals rfl rfl rfl rfl rfl rfl (jstp_virtual (sa := [vR 51 (jcs D 48)]) (st := []) (k := 0) rfl rfl sJ5_equals okJ5_equals g_1 (one64.k g_1) rfl rfl) w (fun v_188 h_186 _ _ w => ?_)
                                                                            refine jw_if_eq (tgt := 1161) (pc' := 505) rfl rfl (fun c_189 => ?_) (fun c_189 => ?_)
                                                                            · replace w := w.1 c_189
                                                                              refine jw_gen (ls' := [none, none, some (vI (-1 : Int32))]) (st' := []) (And.intro (Or.inl rfl) (trivial)) (trivial) ?_
                                                                              exact w_X18_reserved_1161 w
                                                                            · replace w := w.2 c_189
                                                                              refine jw_bipush (pc' := 507) (x := (6 : Int32)) rfl rfl ?_
                                                                              refine jw_istore_n (pc' := 508) (ls' := [some (vR 64 r0), some (vR 64 r0), some (vI (6 : Int32))]) rfl (by decide) rfl ?_
                                                                              refine jw_goto (pc' := 1161) rfl rfl ?_
                                                                              refine jw_gen (ls' := [none, none, some (vI (6 : Int32))]) (st' := []) (And.intro (Or.inl rfl) (trivial)) (trivial) ?_
                                                                              exact w_X18_reserved_1161 w
                                                                          · rw [jsw_miss c_185]
                                                                            replace w := w.2
                                                                            by_cases c_190 : v_4 = (3556653 : Int32)
                                                                            · rw [jsw_hit c_190]
                                                                              replace w := w.1 c_190
                                                                              refine jw_aload_n (pc' := 455) rfl rfl ?_
                                                                              refine jw_ldcS (pc' := 457) rfl rfl rfl rfl ?_
                                                                              refine jw_cI (st := []) (sa := [vR 64 r0, vR 51 (jcs D 45)]) okJ5_equals rfl rfl rfl rfl rfl rfl (jstp_virtual (sa := [vR 51 (jcs D 45)]) (st := []) (k := 0) rfl rfl sJ5_equals okJ5_equals g_1 (one64.k g_1) rfl rfl) w (fun v_193 h_191 _ _ w => ?_)
                                                                              refine jw_if_eq (tgt := 1161) (pc' := 463) rfl rfl (fun c_194 => ?_) (fun c_194 => ?_)
                                                                              · replace w := w.1 c_194
                                                                                refine jw_gen (ls' := [none, none, some (vI (-1 : Int32))]) (st' := []) (And.intro (Or.inl rfl) (trivial)) (trivial) ?_
                                                                                exact w_X18_reserved_1161 w
                                                                              · replace w := w.2 c_194
                                                                                refine jw_iconst (pc' := 464) (x := (3 : Int32)) rfl rfl ?_
                                                                                refine jw_istore_n (pc' := 465) (ls' := [some (vR 64 r0), some (vR 64 r0), some (vI (3 : Int32))]) rfl (by decide) rfl ?_
                                                                                refine jw_goto (pc' := 1161) rfl rfl ?_
                                                                                refine jw_gen (ls' := [none, none, some (vI (3 : Int32))]) (st' := []) (And.intro (Or.inl rfl) (trivial)) (trivial) ?_
                                                                                exact w_X18_reserved_1161 w
                                                                            · rw [jsw_miss c_190]
                                                                              replace w := w.2
                                                                              by_cases c_195 : v_4 = (3558941 : Int32)
                                                                              · rw [jsw_hit c_195]
                                                                                replace w := w.1 c_195
                                                                                refine jw_aload_n (pc' := 1117) rfl rfl ?_
                                                                                refine jw_ldcwS (pc' := 1120) rfl rfl rfl rfl ?_
                                                                                refine jw_cI (st := []) (sa := [vR 64 r0, vR 51 (jcs D 88)]) okJ5_equals rfl rfl rfl rfl rfl rfl (jstp_virtual (sa := [vR 51 (jcs D 88)]) (st := []) (k := 0) rfl rfl sJ5_equals okJ5_equals g_1 (one64.k g_1) rfl rfl) w (fun v_198 h_196 _ _ w => ?_)
                                                                                refine jw_if_eq (tgt := 1161) (pc' := 1126) rfl rfl (fun c_199 => ?_) (fun c_199 => ?_)
                                                                                · replace w := w.1 c_199
                                                                                  refine jw_gen (ls' := [none, none, some (vI (-1 : Int32))]) (st' := []) (And.intro (Or.inl rfl) (trivial)) (trivial) ?_
                                                                                  exact w_X18_reserved_1161 w
                                                                                · replace w := w.2 c_199
                                                                                  refine jw_bipush (pc' := 1128) (x := (46 : Int32)) rfl rfl ?_
                                                                                  refine jw_istore_n (pc' := 1129) (ls' := [some (vR 64 r0), some (vR 64 r0), some (vI (46 : Int32))]) rfl (by decide) rfl ?_
                                                                                  refine jw_goto (pc' := 1161) rfl rfl ?_
                                                                                  refine jw_gen (ls' := [none, none, some (vI (46 : Int32))]) (st' := []) (And.intro (Or.inl rfl) (trivial)) (trivial) ?_
                                                                                  exact w_X18_reserved_1161 w
                                                                              · rw [jsw_miss c_195]
                                                                                replace w := w.2
                                                                                by_cases c_200 : v_4 = (3569038 : Int32)
                                                                                · rw [jsw_hit c_200]
                                                                                  replace w := w.1 c_200
                                                                                  refine jw_aload_n (pc' := 1053) rfl rfl ?_
                                                                                  refine jw_ldcwS (pc' := 1056) rfl rfl rfl rfl ?_
                                                                                  refine jw_cI (st := []) (sa := [vR 64 r0, vR 51 (jcs D 84)]) okJ5_equals rfl rfl rfl rfl rfl rfl (jstp_virtual (sa := [vR 51 (jcs D 84)]) (st := []) (k := 0) rfl rfl sJ5_equals okJ5_equals g_1 (one64.k g_1) rfl rfl) w (fun v_203 h_201 _ _ w => ?_)
                                                                                  refine jw_if_eq (tgt := 1161) (pc' := 1062) rfl rfl (fun c_204 => ?_) (fun c_204 => ?_)
                                                                                  · replace w := w.1 c_204
                                                                                    refine jw_gen (ls' := [none, none, some (vI (-1 : Int32))]) (st' := []) (And.intro (Or.inl rfl) (trivial)) (trivial) ?_
                                                                                    exact w_X18_reserved_1161 w
                                                                                  · replace w := w.2 c_204
                                                                                    refine jw_bipush (pc' := 1064) (x := (42 : Int32)) rfl rfl ?_
                                                                                    refine jw_istore_n (pc' := 1065) (ls' := [some (vR 64 r0), some (vR 64 r0), some (vI (42 : Int32))]) rfl (by decide) rfl ?_
                                                                                    refine jw_goto (pc' := 1161) rfl rfl ?_
                                                                                    refine jw_gen (ls' := [none, none, some (vI (42 : Int32))]) (st' := []) (And.intro (Or.inl rfl) (trivial)) (trivial) ?_
                                                                                    exact w_X18_reserved_1161 w
                                                                                · rw [jsw_miss c_200]
                                                                                  replace w := w.2
                                                                                  by_cases c_205 : v_4 = (3648314 : Int32)
                                                                                  · rw [jsw_hit c_205]
                                                                                    replace w := w.1 c_205
                                                                                    refine jw_aload_n (pc' := 1101) rfl rfl ?_
                                                                                    refine jw_ldcwS (pc' := 1104) rfl rfl rfl rfl ?_
                                                                                    refine jw_cI (st := []) (sa := [vR 64 r0, vR 51 (jcs D 87)]) okJ5_equals rfl rfl rfl rfl rfl rfl (jstp_virtual (sa := [vR 51 (jcs D 87)]) (st := []) (k := 0) rfl rfl sJ5_equals okJ5_equals g_1 (one64.k g_1) rfl rfl) w (fun v_208 h_206 _ _ w => ?_)
                                                                                    refine jw_if_eq (tgt := 1161) (pc' := 1110) rfl rfl (fun c_209 => ?_) (fun c_209 => ?_)
                                                                                    · replace w := w.1 c_209
                                                                                      refine jw_gen (ls' := [none, none, some (vI (-1 : Int32))]) (st' := []) (And.intro (Or.inl rfl) (trivial)) (trivial) ?_
                                                                                      exact w_X18_reserved_1161 w
                                                                                    · replace w := w.2 c_209
                                                                                      refine jw_bipush (pc' := 1112) (x := (45 : Int32)) rfl rfl ?_
                                                                                      refine jw_istore_n (pc' := 1113) (ls' := [some (vR 64 r0), some (vR 64 r0), some (vI (45 : Int32))]) rfl (by decide) rfl ?_
                                                                                      refine jw_goto (pc' := 1161) rfl rfl ?_
                                                                                      refine jw_gen (ls' := [none, none, some (vI (45 : Int32))]) (st' := []) (And.intro (Or.inl rfl) (trivial)) (trivial) ?_
                                                                                      exact w_X18_reserved_1161 w
                                                                                  · rw [jsw_miss c_205]
                                                                                    replace w := w.2
                                                                                    by_cases c_210 : v_4 = (93616297 : Int32)
                                                                                    · rw [jsw_hit c_210]
                                                                                      replace w := w.1 c_210
                                                                                      refine jw_aload_n (pc' := 692) rfl rfl ?_
                                                                                      refine jw_ldcS (pc' := 694) rfl rfl rfl rfl ?_
                                                                                      refine jw_cI (st := []) (sa := [vR 64 r0, vR 51 (jcs D 61)]) okJ5_equals rfl rfl rfl rfl rfl rfl (jstp_virtual (sa := [vR 51 (jcs D 61)]) (st := []) (k := 0) rfl rfl sJ5_equals okJ5_equals g_1 (one64.k g_1) rfl rfl) w (fun v_213 h_211 _ _ w => ?_)
                                                                                      refine jw_if_eq (tgt := 1161) (pc' := 700) rfl rfl (fun c_214 => ?_) (fun c_214 => ?_)
                                                                                      · replace w := w.1 c_214
                                                                                        refine jw_gen (ls' := [none, none, some (vI (-1 : Int32))]) (st' := []) (And.intro (Or.inl rfl) (trivial)) (trivial) ?_
                                                                                        exact w_X18_reserved_1161 w
                                                                                      · replace w := w.2 c_214
                                                                                        refine jw_bipush (pc' := 702) (x := (19 : Int32)) rfl rfl ?_
                                                                                        refine jw_istore_n (pc' := 703) (ls' := [some (vR 64 r0), some (vR 64 r0), some (vI (19 : Int32))]) rfl (by decide) rfl ?_
                                                                                        refine jw_goto (pc' := 1161) rfl rfl ?_
                                                                                        refine jw_gen (ls' := [none, none, some (vI (19 : Int32))]) (st' := []) (And.intro (Or.inl rfl) (trivial)) (trivial) ?_
                                                                                        exact w_X18_reserved_1161 w
                                                                                    · rw [jsw_miss c_210]
                                                                                      replace w := w.2
                                                                                      by_cases c_215 : v_4 = (97196323 : Int32)
                                                                                      · rw [jsw_hit c_215]
                                                                                        replace w := w.1 c_215
                                                                                        refine jw_aload_n (pc' := 1069) rfl rfl ?_
                                                                                        refine jw_ldcwS (pc' := 1072) rfl rfl rfl rfl ?_
                                                                                        refine jw_cI (st := []) (sa := [vR 64 r0, vR 51 (jcs D 85)]) okJ5_equals rfl rfl rfl rfl rfl rfl (jstp_virtual (sa := [vR 51 (jcs D 85)]) (st := []) (k := 0) rfl rfl sJ5_equals okJ5_equals g_1 (one64.k g_1) rfl rfl) w (fun v_218 h_216 _ _ w => ?_)
                                                                                        refine jw_if_eq (tgt := 1161) (pc' := 1078) rfl rfl (fun c_219 => ?_) (fun c_219 => ?_)
                                                                                        · replace w := w.1 c_219
                                                                                          refine jw_gen (ls' := [none, none, some (vI (-1 : Int32))]) (st' := []) (And.intro (Or.inl rfl) (trivial)) (trivial) ?_
                                                                                          exact w_X18_reserved_1161 w
                                                                                        · replace w := w.2 c_219
                                                                                          refine jw_bipush (pc' := 1080) (x := (43 : Int32)) rfl rfl ?_
                                                                                          refine jw_istore_n (pc' := 1081) (ls' := [some (vR 64 r0), some (vR 64 r0), some (vI (43 : Int32))]) rfl (by decide) rfl ?_
                                                                                          refine jw_goto (pc' := 1161) rfl rfl ?_
                                                                                          refine jw_gen (ls' := [none, none, some (vI (43 : Int32))]) (st' := []) (And.intro (Or.inl rfl) (trivial)) (trivial) ?_
                                                                                          exact w_X18_reserved_1161 w
                                                                                      · rw [jsw_miss c_215]
                                                                                        replace w := w.2
                                                                                        by_cases c_220 : v_4 = (98629247 : Int32)
                                                                                        · rw [jsw_hit c_220]
                                                                                          replace w := w.1 c_220
                                                                                          refine jw_aload_n (pc' := 813) rfl rfl ?_
                                                                                          refine jw_ldcwS (pc' := 816) rfl rfl rfl rfl ?_
                                                                                          refine jw_cI (st := []) (sa := [vR 64 r0, vR 51 (jcs D 69)]) okJ5_equals rfl rfl rfl rfl rfl rfl (jstp_virtual (sa := [vR 51 (jcs D 69)]) (st := []) (k := 0) rfl rfl sJ5_equals okJ5_equals g_1 (one64.k g_1) rfl rfl) w (fun v_223 h_221 _ _ w => ?_)
                                                                                          refine jw_if_eq (tgt := 1161) (pc' := 822) rfl rfl (fun c_224 => ?_) (fun c_224 => ?_)
                                                                                          · replace w := w.1 c_224
                                                                                            refine jw_gen (ls' := [none, none, some (vI (-1 : Int32))]) (st' := []) (And.intro (Or.inl rfl) (trivial)) (trivial) ?_
                                                                                            exact w_X18_reserved_1161 w
                                                                                          · replace w := w.2 c_224
                                                                                            refine jw_bipush (pc' := 824) (x := (27 : Int32)) rfl rfl ?_
                                                                                            refine jw_istore_n (pc' := 825) (ls' := [some (vR 64 r0), some (vR 64 r0), some (vI (27 : Int32))]) rfl (by decide) rfl ?_
                                                                                            refine jw_goto (pc' := 1161) rfl rfl ?_
                                                                                            refine jw_gen (ls' := [none, none, some (vI (27 : Int32))]) (st' := []) (And.intro (Or.inl rfl) (trivial)) (trivial) ?_
                                                                                            exact w_X18_reserved_1161 w
                                                                                        · rw [jsw_miss c_220]
                                                                                          replace w := w.2
                                                                                          by_cases c_225 : v_4 = (102976443 : Int32)
                                                                                          · rw [jsw_hit c_225]
                                                                                            replace w := w.1 c_225
                                                                                            refine jw_aload_n (pc' := 909) rfl rfl ?_
                                                                                            refine jw_ldcwS (pc' := 912) rfl rfl rfl rfl ?_
                                                                                            refine jw_cI (st := []) (sa := [vR 64 r0, vR 51 (jcs D 75)]) okJ5_equals rfl rfl rfl rfl rfl rfl (jstp_virtual (sa := [vR 51 (jcs D 75)]) (st := []) (k := 0) rfl rfl sJ5_equals okJ5_equals g_1 (one64.k g_1) rfl rfl) w (fun v_228 h_226 _ _ w => ?_)
                                                                                            refine jw_if_eq (tgt := 1161) (pc' := 918) rfl rfl (fun c_229 => ?_) (fun c_229 => ?_)
                                                                                            · replace w := w.1 c_229
                                                                                              refine jw_gen (ls' := [none, none, some (vI (-1 : Int32))]) (st' := []) (And.intro (Or.inl rfl) (trivial)) (trivial) ?_
                                                                                              exact w_X18_reserved_1161 w
                                                                                            · replace w := w.2 c_229
                                                                                              refine jw_bipush (pc' := 920) (x := (33 : Int32)) rfl rfl ?_
                                                                                              refine jw_istore_n (pc' := 921) (ls' := [some (vR 64 r0), some (vR 64 r0), some (vI (33 : Int32))]) rfl (by decide) rfl ?_
                                                                                              refine jw_goto (pc' := 1161) rfl rfl ?_
                                                                                              refine jw_gen (ls' := [none, none, some (vI (33 : Int32))]) (st' := []) (And.intro (Or.inl rfl) (trivial)) (trivial) ?_
                                                                                              exact w_X18_reserved_1161 w
                                                                                          · rw [jsw_miss c_225]
                                                                                            replace w := w.2
                                                                                            by_cases c_230 : v_4 = (106006350 : Int32)
                                                                                            · rw [jsw_hit c_230]
                                                                                              replace w := w.1 c_230
                                                                                              refine jw_aload_n (pc' := 861) rfl rfl ?_
                                                                                              refine jw_ldcwS (pc' := 864) rfl rfl rfl rfl ?_
                                                                                              refine jw_cI (st := []) (sa := [vR 64 r0, vR 51 (jcs D 72)]) okJ5_equals rfl rfl rfl rfl rfl rfl (jstp_virtual (sa := [vR 51 (jcs D 72)]) (st := []) (k := 0) rfl rfl sJ5_equals okJ5_equals g_1 (one64.k g_1) rfl rfl) w (fun v_233 h_231 _ _ w => ?_)
                                                                                              refine jw_if_eq (tgt := 1161) (pc' := 870) rfl rfl (fun c_234 => ?_) (fun c_234 => ?_)
                                                                                              · replace w := w.1 c_234
                                                                                                refine jw_gen (ls' := [none, none, some (vI (-1 : Int32))]) (st' := []) (And.intro (Or.inl rfl) (trivial)) (trivial) ?_
                                                                                                exact w_X18_reserved_1161 w
                                                                                              · replace w := w.2 c_234
                                                                                                refine jw_bipush (pc' := 872) (x := (30 : Int32)) rfl rfl ?_
                                                                                                refine jw_istore_n (pc' := 873) (ls' := [some (vR 64 r0), some (vR 64 r0), some (vI (30 : Int32))]) rfl (by decide) rfl ?_
                                                                                                refine jw_goto (pc' := 1161) rfl rfl ?_
                                                                                                refine jw_gen (ls' := [none, none, some (vI (30 : Int32))]) (st' := []) (And.intro (Or.inl rfl) (trivial)) (trivial) ?_
                                                                                                exact w_X18_reserved_1161 w
                                                                                            · rw [jsw_miss c_230]
                                                                                              replace w := w.2
                                                                                              by_cases c_235 : v_4 = (110115790 : Int32)
                                                                                              · rw [jsw_hit c_235]
                                                                                                replace w := w.1 c_235
                                                                                                refine jw_aload_n (pc' := 427) rfl rfl ?_
                                                                                                refine jw_ldcS (pc' := 429) rfl rfl rfl rfl ?_
                                                                                                refine jw_cI (st := []) (sa := [vR 64 r0, vR 51 (jcs D 43)]) okJ5_equals rfl rfl rfl rfl rfl rfl (jstp_virtual (sa := [vR 51 (jcs D 43)]) (st := []) (k := 0) rfl rfl sJ5_equals okJ5_equals g_1 (one64.k g_1) rfl rfl) w (fun v_238 h_236 _ _ w => ?_)
                                                                                                refine jw_if_eq (tgt := 1161) (pc' := 435) rfl rfl (fun c_239 => ?_) (fun c_239 => ?_)
                                                                                                · replace w := w.1 c_239
                                                                                                  refine jw_gen (ls' := [none, none, some (vI (-1 : Int32))]) (st' := []) (And.intro (Or.inl rfl) (trivial)) (trivial) ?_
                                                                                                  exact w_X18_reserved_1161 w
                                                                                                · replace w := w.2 c_239
                                                                                                  refine jw_iconst (pc' := 436) (x := (1 : Int32)) rfl rfl ?_
                                                                                                  refine jw_istore_n (pc' := 437) (ls' := [some (vR 64 r0), some (vR 64 r0), some (vI (1 : Int32))]) rfl (by decide) rfl ?_
                                                                                                  refine jw_goto (pc' := 1161) rfl rfl ?_
                                                                                                  refine jw_gen (ls' := [none, none, some (vI (1 : Int32))]) (st' := []) (And.intro (Or.inl rfl) (trivial)) (trivial) ?_
                                                                                                  exact w_X18_reserved_1161 w
                                                                                              · rw [jsw_miss c_235]
                                                                                                replace w := w.2
                                                                                                by_cases c_240 : v_4 = (113097959 : Int32)
                                                                                                · rw [jsw_hit c_240]
                                                                                                  replace w := w.1 c_240
                                                                                                  refine jw_aload_n (pc' := 647) rfl rfl ?_
                                                                                                  refine jw_ldcS (pc' := 649) rfl rfl rfl rfl ?_
                                                                                                  refine jw_cI (st := []) (sa := [vR 64 r0, vR 51 (jcs D 58)]) okJ5_equals rfl rfl rfl rfl rfl rfl (jstp_virtual (sa := [vR 51 (jcs D 58)]) (st := []) (k := 0) rfl rfl sJ5_equals okJ5_equals g_1 (one64.k g_1) rfl rfl) w (fun v_243 h_241 _ _ w => ?_)
                                                                                                  refine jw_if_eq (tgt := 1161) (pc' := 655) rfl rfl (fun c_244 => ?_) (fun c_244 => ?_)
                                                                                                  · replace w := w.1 c_244
                                                                                                    refine jw_gen (ls' := [none, none, some (vI (-1 : Int32))]) (st' := []) (And.intro (Or.inl rfl) (trivial)) (trivial) ?_
                                                                                                    exact w_X18_reserved_1161 w
                                                                                                  · replace w := w.2 c_244
                                                                                                    refine jw_bipush (pc' := 657) (x := (16 : Int32)) rfl rfl ?_
                                                                                                    refine jw_istore_n (pc' := 658) (ls' := [some (vR 64 r0), some (vR 64 r0), some (vI (16 : Int32))]) rfl (by decide) rfl ?_
                                                                                                    refine jw_goto (pc' := 1161) rfl rfl ?_
                                                                                                    refine jw_gen (ls' := [none, none, some (vI (16 : Int32))]) (st' := []) (And.intro (Or.inl rfl) (trivial)) (trivial) ?_
                                                                                                    exact w_X18_reserved_1161 w
                                                                                                · rw [jsw_miss c_240]
                                                                                                  replace w := w.2
                                                                                                  by_cases c_245 : v_4 = (288698108 : Int32)
                                                                                                  · rw [jsw_hit c_245]
                                                                                                    replace w := w.1 c_245
                                                                                                    refine jw_aload_n (pc' := 752) rfl rfl ?_
                                                                                                    refine jw_ldcS (pc' := 754) rfl rfl rfl rfl ?_
                                                                                                    refine jw_cI (st := []) (sa := [vR 64 r0, vR 51 (jcs D 65)]) okJ5_equals rfl rfl rfl rfl rfl rfl (jstp_virtual (sa := [vR 51 (jcs D 65)]) (st := []) (k := 0) rfl rfl sJ5_equals okJ5_equals g_1 (one64.k g_1) rfl rfl) w (fun v_248 h_246 _ _ w => ?_)
                                                                                                    refine jw_if_eq (tgt := 1161) (pc' := 760) rfl rfl (fun c_249 => ?_) (fun c_249 => ?_)
                                                                                                    · replace w := w.1 c_249
                                                                                                      refine jw_gen (ls' := [none, none, some (vI (-1 : Int32))]) (st' := []) (And.intro (Or.inl rfl) (trivial)) (trivial) ?_
                                                                                                      exact w_X18_reserved_1161 w
                                                                                                    · replace w := w.2 c_249
                                                                                                      refine jw_bipush (pc' := 762) (x := (23 : Int32)) rfl rfl ?_
                                                                                                      refine jw_istore_n (pc' := 763) (ls' := [some (vR 64 r0), some (vR 64 r0), some (vI (23 : Int32))]) rfl (by decide) rfl ?_
                                                                                                      refine jw_goto (pc' := 1161) rfl rfl ?_
                                                                                                      refine jw_gen (ls' := [none, none, some (vI (23 : Int32))]) (st' := []) (And.intro (Or.inl rfl) (trivial)) (trivial) ?_
                                                                                                      exact w_X18_reserved_1161 w
                                                                                                  · rw [jsw_miss c_245]
                                                                                                    replace w := w.2
                                                                                                    rw [jsw_nil]
                                                                                                    replace w := w c_5 c_10 c_15 c_20 c_25 c_30 c_35 c_40 c_45 c_50 c_55 c_60 c_65 c_70 c_75 c_80 c_85 c_90 c_95 c_100 c_105 c_110 c_115 c_120 c_125 c_130 c_135 c_140 c_145 c_150 c_155 c_160 c_165 c_170 c_175 c_180 c_185 c_190 c_195 c_200 c_205 c_210 c_215 c_220 c_225 c_230 c_235 c_240 c_245
                                                                                                    refine jw_gen (ls' := [none, none, some (vI (-1 : Int32))]) (st' := []) (And.intro (Or.inl rfl) (trivial)) (trivial) ?_
                                                                                                    exact w_X18_reserved_1161 w
def T_X18_reserved (D : JD) (d : Nat) (Q : JO → JH → Prop) (r0 : Nat) (h : JH) : Prop := W_X18_reserved_0 D d Q r0 h
theorem t_X18_reserved {D : JD} {d : Nat} {Q : JO → JH → Prop} {r0 : Nat} {h : JH} (w : T_X18_reserved D d Q r0 h) : cX18_reserved D (d + 1) r0 h Q := by
  unfold T_X18_reserved at w
  unfold cX18_reserved
  exact w_X18_reserved_0 w
def W_X18_need_0 (D : JD) (d : Nat) (Q : JO → JH → Prop) (r0 : Nat) (r1 : Nat) (h : JH) : Prop :=
  r0 ≠ 0 ∧ (cX18_takes D d r0 r1 h (pI D h (fun v_4 h_2 => (¬ v_4 = 0 → Q (.inl none) h_2) ∧ (v_4 = 0 → cX18_broken D d r0 h_2 (pR D h_2 9 (fun v_8 h_6 => v_8 ≠ 0 ∧ (Q (.inr v_8) h_6)) (jth Q)))) (jth Q)))
theorem w_X18_need_0 {D : JD} {d : Nat} {Q : JO → JH → Prop} {r0 : Nat} {r1 : Nat} {h : JH} (w : W_X18_need_0 D d Q r0 r1 h) : JW D (d + 1) mX18_need 0 [some (vR 15 r0), some (vR 64 r1)] [] h Q := by
  unfold W_X18_need_0 at w
  refine jw_aload_n (pc' := 1) rfl rfl ?_
  refine jw_aload_n (pc' := 2) rfl rfl ?_
  obtain ⟨g_1, w⟩ := w
  refine jw_cI (st := []) (sa := [vR 15 r0, vR 64 r1]) okX18_takes rfl rfl rfl rfl rfl rfl (jstp_virtual (sa := [vR 64 r1]) (st := []) (k := 0) rfl rfl sX18_takes okX18_takes g_1 (one15.k g_1) rfl rfl) w (fun v_4 h_2 _ _ w => ?_)
  refine jw_if_ne (tgt := 13) (pc' := 8) rfl rfl (fun c_5 => ?_) (fun c_5 => ?_)
  · replace w := w.1 c_5
    exact jw_return rfl rfl w
  · replace w := w.2 c_5
    refine jw_aload_n (pc' := 9) rfl rfl ?_
    refine jw_cR (st := []) (sa := [vR 15 r0]) okX18_broken rfl rfl rfl rfl rfl rfl (jstp_virtual (sa := []) (st := []) (k := 0) rfl rfl sX18_broken okX18_broken g_1 (one15.k g_1) rfl rfl) w (fun v_8 h_6 _ _ _ w => ?_)
    obtain ⟨g_9, w⟩ := w
    exact jw_athrow rfl rfl g_9 w
def T_X18_need (D : JD) (d : Nat) (Q : JO → JH → Prop) (r0 : Nat) (r1 : Nat) (h : JH) : Prop := W_X18_need_0 D d Q r0 r1 h
theorem t_X18_need {D : JD} {d : Nat} {Q : JO → JH → Prop} {r0 : Nat} {r1 : Nat} {h : JH} (w : T_X18_need D d Q r0 r1 h) : cX18_need D (d + 1) r0 r1 h Q := by
  unfold T_X18_need at w
  unfold cX18_need
  exact w_X18_need_0 w
def W_X19_init_0 (D : JD) (d : Nat) (Q : JO → JH → Prop) (r0 : Nat) (r1 : Nat) (r2 : Nat) (h : JH) : Prop :=
  r0 ≠ 0 ∧ (∀ h_2 : JH, h_2 = wfr h 92 r0 r1 → (∀ h_4 : JH, h_4 = wfr h_2 93 r0 r2 → (Q (.inl none) h_4)))
theorem w_X19_init_0 {D : JD} {d : Nat} {Q : JO → JH → Prop} {r0 : Nat} {r1 : Nat} {r2 : Nat} {h : JH} (w : W_X19_init_0 D d Q r0 r1 r2 h) : JW D (d + 1) mX19_init 0 [some (vR 16 r0), some (vR 64 r1), some (vR 52 r2)] [] h Q := by
  unfold W_X19_init_0 at w
  refine jw_aload_n (pc' := 1) rfl rfl ?_
  obtain ⟨g_1, w⟩ := w
  refine jw_obj (pc' := 4) rfl (lw_g (jtb_mem (c := 6) (i := 151) rfl) rfl) rfl g_1 ?_
  refine jw_aload_n (pc' := 5) rfl rfl ?_
  refine jw_aload_n (pc' := 6) rfl rfl ?_
  refine jw_putR' (pc' := 9) (F := 92) rfl rfl rfl (Or.inr rfl) (Or.inr ⟨rfl, rfl⟩) rfl rfl rfl g_1 (fun h_2 e_3 => ?_)
  replace w := w h_2 e_3
  refine jw_aload_n (pc' := 10) rfl rfl ?_
  refine jw_aload_n (pc' := 11) rfl rfl ?_
  refine jw_putR' (pc' := 14) (F := 93) rfl rfl rfl (Or.inr rfl) (Or.inr ⟨rfl, rfl⟩) rfl rfl rfl g_1 (fun h_4 e_5 => ?_)
  replace w := w h_4 e_5
  exact jw_return rfl rfl w
def T_X19_init (D : JD) (d : Nat) (Q : JO → JH → Prop) (r0 : Nat) (r1 : Nat) (r2 : Nat) (h : JH) : Prop := W_X19_init_0 D d Q r0 r1 r2 h
theorem t_X19_init {D : JD} {d : Nat} {Q : JO → JH → Prop} {r0 : Nat} {r1 : Nat} {r2 : Nat} {h : JH} (w : T_X19_init D d Q r0 r1 r2 h) : cX19_init D (d + 1) r0 r1 r2 h Q := by
  unfold T_X19_init at w
  unfold cX19_init
  exact w_X19_init_0 w
def W_X2_init_0 (D : JD) (d : Nat) (Q : JO → JH → Prop) (r0 : Nat) (x1 : Int32) (h : JH) : Prop :=
  r0 ≠ 0 ∧ (jsm x1 ∧ ∀ (r_2 : Nat) (h_3 : JH), r_2 = jsz h + 1 → h_3 = nwa h 127 (ixn x1) → (∀ h_7 : JH, h_7 = wfr h_3 17 r0 r_2 → (Q (.inl none) h_7)))
theorem w_X2_init_0 {D : JD} {d : Nat} {Q : JO → JH → Prop} {r0 : Nat} {x1 : Int32} {h : JH} (w : W_X2_init_0 D d Q r0 x1 h) : JW D (d + 1) mX2_init 0 [some (vR 2 r0), some (vI x1)] [] h Q := by
  unfold W_X2_init_0 at w
  refine jw_aload_n (pc' := 1) rfl rfl ?_
  obtain ⟨g_1, w⟩ := w
  refine jw_obj (pc' := 4) rfl (lw_g (jtb_mem (c := 1) (i := 88) rfl) rfl) rfl g_1 ?_
  refine jw_aload_n (pc' := 5) rfl rfl ?_
  refine jw_iload_n (pc' := 6) rfl rfl ?_
  obtain ⟨g_6, w⟩ := w
  refine jw_newa' (pc' := 8) (n := ixn x1) (k := 127) rfl rfl rfl rfl rfl rfl (lw_g (jtb_mem (c := 1) (i := 105) rfl) rfl) g_6.ix g_6.b1 (fun r_2 h_3 e_4 e_5 => ?_)
  replace w := w r_2 h_3 e_4 e_5
  refine jw_putR' (pc' := 11) (F := 17) rfl rfl rfl (Or.inr rfl) (Or.inl rfl) rfl rfl rfl g_1 (fun h_7 e_8 => ?_)
  replace w := w h_7 e_8
  exact jw_return rfl rfl w
def T_X2_init (D : JD) (d : Nat) (Q : JO → JH → Prop) (r0 : Nat) (x1 : Int32) (h : JH) : Prop := W_X2_init_0 D d Q r0 x1 h
theorem t_X2_init {D : JD} {d : Nat} {Q : JO → JH → Prop} {r0 : Nat} {x1 : Int32} {h : JH} (w : T_X2_init D d Q r0 x1 h) : cX2_init D (d + 1) r0 x1 h Q := by
  unfold T_X2_init at w
  unfold cX2_init
  exact w_X2_init_0 w
def W_X2_clear_0 (D : JD) (d : Nat) (Q : JO → JH → Prop) (r0 : Nat) (h : JH) : Prop :=
  r0 ≠ 0 ∧ ∀ h_2 : JH, h_2 = wfi h 18 r0 (0 : Int32) → (Q (.inl none) h_2)
theorem w_X2_clear_0 {D : JD} {d : Nat} {Q : JO → JH → Prop} {r0 : Nat} {h : JH} (w : W_X2_clear_0 D d Q r0 h) : JW D (d + 1) mX2_clear 0 [some (vR 2 r0)] [] h Q := by
  unfold W_X2_clear_0 at w
  refine jw_aload_n (pc' := 1) rfl rfl ?_
  refine jw_iconst (pc' := 2) (x := (0 : Int32)) rfl rfl ?_
  obtain ⟨g_1, w⟩ := w
  refine jw_putI' (pc' := 5) (F := 18) rfl rfl rfl (Or.inr rfl) (Or.inl rfl) rfl (rfl) (rfl) rfl g_1 (fun h_2 e_3 => ?_)
  replace w := w h_2 e_3
  exact jw_return rfl rfl w
def T_X2_clear (D : JD) (d : Nat) (Q : JO → JH → Prop) (r0 : Nat) (h : JH) : Prop := W_X2_clear_0 D d Q r0 h
theorem t_X2_clear {D : JD} {d : Nat} {Q : JO → JH → Prop} {r0 : Nat} {h : JH} (w : T_X2_clear D d Q r0 h) : cX2_clear D (d + 1) r0 h Q := by
  unfold T_X2_clear at w
  unfold cX2_clear
  exact w_X2_clear_0 w
def W_X2_put_40 (D : JD) (d : Nat) (Q : JO → JH → Prop) (r0 : Nat) (x1 : Int32) (h : JH) : Prop :=
  r0 ≠ 0 ∧ ((jfr h 17 r0) ≠ 0 ∧ jin (jfi h 18 r0) (jln h (jfr h 17 r0)) ∧ ∀ h_4 : JH, h_4 = wai h (jfr h 17 r0) (ixn (jfi h 18 r0)) ((Int32.toInt8 ((Int32.toInt8 x1).toInt32)).toInt32) → (∀ h_6 : JH, h_6 = wfi h_4 18 r0 ((jfi h_4 18 r0) + (1 : Int32)) → (Q (.inl none) h_6)))
theorem w_X2_put_40 {D : JD} {d : Nat} {Q : JO → JH → Prop} {r0 : Nat} {x1 : Int32} {h : JH} (w : W_X2_put_40 D d Q r0 x1 h) : JW D (d + 1) mX2_put 40 [some (vR 2 r0), some (vI x1), none] [] h Q := by
  unfold W_X2_put_40 at w
  refine jw_aload_n (pc' := 41) rfl rfl ?_
  obtain ⟨g_1, w⟩ := w
  refine jw_getR (pc' := 44) (F := 17) (t' := 127) rfl rfl rfl rfl rfl g_1 ?_
  refine jw_aload_n (pc' := 45) rfl rfl ?_
  refine jw_getI (pc' := 48) (F := 18) rfl rfl rfl rfl g_1 ?_
  refine jw_iload_n (pc' := 49) rfl rfl ?_
  refine jw_i2b (pc' := 50) rfl ?_
  obtain ⟨g_2, w⟩ := w
  obtain ⟨g_3, w⟩ := w
  refine jw_bast' (pc' := 51) rfl rfl rfl rfl rfl g_2 g_3 (fun h_4 e_5 => ?_)
  replace w := w h_4 e_5
  refine jw_aload_n (pc' := 52) rfl rfl ?_
  refine jw_dup (pc' := 53) rfl rfl ?_
  refine jw_getI (pc' := 56) (F := 18) rfl rfl rfl rfl g_1 ?_
  refine jw_iconst (pc' := 57) (x := (1 : Int32)) rfl rfl ?_
  refine jw_iadd (pc' := 58) rfl ?_
  refine jw_putI' (pc' := 61) (F := 18) rfl rfl rfl (Or.inr rfl) (Or.inl rfl) rfl (rfl) (rfl) rfl g_1 (fun h_6 e_7 => ?_)
  replace w := w h_6 e_7
  exact jw_return rfl rfl w
def W_X2_put_0 (D : JD) (d : Nat) (Q : JO → JH → Prop) (r0 : Nat) (x1 : Int32) (h : JH) : Prop :=
  r0 ≠ 0 ∧ ((jfr h 17 r0) ≠ 0 ∧ ((¬ (jfi h 18 r0) = (nI (jln h (jfr h 17 r0))) → W_X2_put_40 D d Q r0 x1 h) ∧ ((jfi h 18 r0) = (nI (jln h (jfr h 17 r0))) → jsm ((2 : Int32) * (jfi h 18 r0)) ∧ ∀ (r_4 : Nat) (h_5 : JH), r_4 = jsz h + 1 → h_5 = nwa h 127 (ixn ((2 : Int32) * (jfi h 18 r0))) → ((jfr h_5 17 r0) ≠ 0 ∧ jcpy h_5 (jfr h_5 17 r0) (0 : Int32) r_4 (0 : Int32) (jfi h_5 18 r0) ∧ ∀ h_11 : JH, h_11 = cpa h_5 (jfr h_5 17 r0) (ixn (0 : Int32)) r_4 (ixn (0 : Int32)) (ixn (jfi h_5 18 r0)) → (∀ h_13 : JH, h_13 = wfr h_11 17 r0 r_4 → (W_X2_put_40 D d Q r0 x1 h_13))))))
theorem w_X2_put_0 {D : JD} {d : Nat} {Q : JO → JH → Prop} {r0 : Nat} {x1 : Int32} {h : JH} (w : W_X2_put_0 D d Q r0 x1 h) : JW D (d + 1) mX2_put 0 [some (vR 2 r0), some (vI x1), none] [] h Q := by
  unfold W_X2_put_0 at w
  refine jw_aload_n (pc' := 1) rfl rfl ?_
  obtain ⟨g_1, w⟩ := w
  refine jw_getI (pc' := 4) (F := 18) rfl rfl rfl rfl g_1 ?_
  refine jw_aload_n (pc' := 5) rfl rfl ?_
  refine jw_getR (pc' := 8) (F := 17) (t' := 127) rfl rfl rfl rfl rfl g_1 ?_
  obtain ⟨g_2, w⟩ := w
  refine jw_alen (pc' := 9) rfl rfl g_2 ?_
  refine jw_icmp_ne (tgt := 40) (pc' := 12) rfl rfl (fun c_3 => ?_) (fun c_3 => ?_)
  · replace w := w.1 c_3
    exact w_X2_put_40 w
  · replace w := w.2 c_3
    refine jw_iconst (pc' := 13) (x := (2 : Int32)) rfl rfl ?_
    refine jw_aload_n (pc' := 14) rfl rfl ?_
    refine jw_getI (pc' := 17) (F := 18) rfl rfl rfl rfl g_1 ?_
    refine jw_imul (pc' := 18) rfl ?_
    obtain ⟨g_8, w⟩ := w
    refine jw_newa' (pc' := 20) (n := ixn ((2 : Int32) * (jfi h 18 r0))) (k := 127) rfl rfl rfl rfl rfl rfl (lw_g (jtb_mem (c := 1) (i := 105) rfl) rfl) g_8.ix g_8.b1 (fun r_4 h_5 e_6 e_7 => ?_)
    replace w := w r_4 h_5 e_6 e_7
    refine jw_astore_n (pc' := 21) (ls' := [some (vR 2 r0), some (vI x1), some (vR 127 r_4)]) rfl (by decide) rfl ?_
    refine jw_aload_n (pc' := 22) rfl rfl ?_
    refine jw_getR (pc' := 25) (F := 17) (t' := 127) rfl rfl rfl rfl rfl g_1 ?_
    refine jw_iconst (pc' := 26) (x := (0 : Int32)) rfl rfl ?_
    refine jw_aload_n (pc' := 27) rfl rfl ?_
    refine jw_iconst (pc' := 28) (x := (0 : Int32)) rfl rfl ?_
    refine jw_aload_n (pc' := 29) rfl rfl ?_
    refine jw_getI (pc' := 32) (F := 18) rfl rfl rfl rfl g_1 ?_
    obtain ⟨g_9, w⟩ := w
    obtain ⟨g_10, w⟩ := w
    refine jw_acopy' (pc' := 35) rfl (lw_g (jtb_mem (c := 3) (i := 122) rfl) rfl) rfl g_9 (jnz e_6) g_10 (fun h_11 e_12 => ?_)
    replace w := w h_11 e_12
    refine jw_aload_n (pc' := 36) rfl rfl ?_
    refine jw_aload_n (pc' := 37) rfl rfl ?_
    refine jw_putR' (pc' := 40) (F := 17) rfl rfl rfl (Or.inr rfl) (Or.inl rfl) rfl rfl rfl g_1 (fun h_13 e_14 => ?_)
    replace w := w h_13 e_14
    refine jw_gen (ls' := [some (vR 2 r0), some (vI x1), none]) (st' := []) (And.intro (Or.inl rfl) (And.intro (Or.inl rfl) (trivial))) (trivial) ?_
    exact w_X2_put_40 w
def T_X2_put (D : JD) (d : Nat) (Q : JO → JH → Prop) (r0 : Nat) (x1 : Int32) (h : JH) : Prop := W_X2_put_0 D d Q r0 x1 h
theorem t_X2_put {D : JD} {d : Nat} {Q : JO → JH → Prop} {r0 : Nat} {x1 : Int32} {h : JH} (w : T_X2_put D d Q r0 x1 h) : cX2_put D (d + 1) r0 x1 h Q := by
  unfold T_X2_put at w
  unfold cX2_put
  exact w_X2_put_0 w
def W_X2_open_0 (D : JD) (d : Nat) (Q : JO → JH → Prop) (r0 : Nat) (x1 : Int32) (h : JH) : Prop :=
  r0 ≠ 0 ∧ (cX2_put D d r0 x1 h (pV D h (fun h_2 => ∀ h_5 : JH, h_5 = wfi h_2 19 r0 (jfi h_2 18 r0) → (cX2_number D d r0 (0 : Int64) (4 : Int32) h_5 (pV D h_5 (fun h_7 => Q (.inl (some (vR 2 r0))) h_7) (jth Q)))) (jth Q)))
theorem w_X2_open_0 {D : JD} {d : Nat} {Q : JO → JH → Prop} {r0 : Nat} {x1 : Int32} {h : JH} (w : W_X2_open_0 D d Q r0 x1 h) : JW D (d + 1) mX2_open 0 [some (vR 2 r0), some (vI x1)] [] h Q := by
  unfold W_X2_open_0 at w
  refine jw_aload_n (pc' := 1) rfl rfl ?_
  refine jw_iload_n (pc' := 2) rfl rfl ?_
  obtain ⟨g_1, w⟩ := w
  refine jw_cV (st := []) (sa := [vR 2 r0, vI x1]) okX2_put rfl rfl rfl rfl rfl rfl (jstp_virtual (sa := [vI x1]) (st := []) (k := 0) rfl rfl sX2_put okX2_put g_1 (one2.k g_1) rfl rfl) w (fun h_2 _ _ w => ?_)
  refine jw_aload_n (pc' := 6) rfl rfl ?_
  refine jw_aload_n (pc' := 7) rfl rfl ?_
  refine jw_getI (pc' := 10) (F := 18) rfl rfl rfl rfl g_1 ?_
  refine jw_putI' (pc' := 13) (F := 19) rfl rfl rfl (Or.inr rfl) (Or.inl rfl) rfl (rfl) (rfl) rfl g_1 (fun h_5 e_6 => ?_)
  replace w := w h_5 e_6
  refine jw_aload_n (pc' := 14) rfl rfl ?_
  refine jw_lconst (pc' := 15) (x := (0 : Int64)) rfl rfl ?_
  refine jw_iconst (pc' := 16) (x := (4 : Int32)) rfl rfl ?_
  refine jw_cV (st := []) (sa := [vR 2 r0, vL (0 : Int64), vI (4 : Int32)]) okX2_number rfl rfl rfl rfl rfl rfl (jstp_virtual (sa := [vL (0 : Int64), vI (4 : Int32)]) (st := []) (k := 0) rfl rfl sX2_number okX2_number g_1 (one2.k g_1) rfl rfl) w (fun h_7 _ _ w => ?_)
  refine jw_aload_n (pc' := 20) rfl rfl ?_
  exact jw_areturn rfl rfl rfl rfl rfl w
def T_X2_open (D : JD) (d : Nat) (Q : JO → JH → Prop) (r0 : Nat) (x1 : Int32) (h : JH) : Prop := W_X2_open_0 D d Q r0 x1 h
theorem t_X2_open {D : JD} {d : Nat} {Q : JO → JH → Prop} {r0 : Nat} {x1 : Int32} {h : JH} (w : T_X2_open D d Q r0 x1 h) : cX2_open D (d + 1) r0 x1 h Q := by
  unfold T_X2_open at w
  unfold cX2_open
  exact w_X2_open_0 w
def W_X2_number_5 (D : JD) (d : Nat) (Q : JO → JH → Prop) (K5 : Nat → Int64 → Int32 → JH → Prop) (r0 : Nat) (y1 : Int64) (x4 : Int32) (h : JH) : Prop :=
  (x4 < 0 → Q (.inl none) h) ∧ (¬ x4 < 0 → r0 ≠ 0 ∧ (cX2_put D d r0 (Int64.toInt32 (y1 >>> (Int32.toInt64 ((8 : Int32) * x4) &&& 63))) h (pV D h (fun h_3 => K5 r0 y1 (x4 + (-1 : Int32)) h_3) (jth Q))))
theorem w_X2_number_5 {D : JD} {d : Nat} {Q : JO → JH → Prop} {K5 : Nat → Int64 → Int32 → JH → Prop} {r0 : Nat} {y1 : Int64} {x4 : Int32} {h : JH} (hK5 : ∀ (r0 : Nat) (y1 : Int64) (x4 : Int32) (h : JH), K5 r0 y1 x4 h → JW D (d + 1) mX2_number 5 [some (vR 2 r0), some (vL y1), none, none, some (vI x4)] [] h Q) (w : W_X2_number_5 D d Q K5 r0 y1 x4 h) : JW D (d + 1) mX2_number 5 [some (vR 2 r0), some (vL y1), none, none, some (vI x4)] [] h Q := by
  unfold W_X2_number_5 at w
  refine jw_iload (pc' := 7) rfl rfl ?_
  refine jw_if_lt (tgt := 28) (pc' := 10) rfl rfl (fun c_1 => ?_) (fun c_1 => ?_)
  · replace w := w.1 c_1
    exact jw_return rfl rfl w
  · replace w := w.2 c_1
    refine jw_aload_n (pc' := 11) rfl rfl ?_
    refine jw_lload_n (pc' := 12) rfl rfl ?_
    refine jw_bipush (pc' := 14) (x := (8 : Int32)) rfl rfl ?_
    refine jw_iload (pc' := 16) rfl rfl ?_
    refine jw_imul (pc' := 17) rfl ?_
    refine jw_lshr (pc' := 18) rfl ?_
    refine jw_l2i (pc' := 19) rfl ?_
    obtain ⟨g_2, w⟩ := w
    refine jw_cV (st := []) (sa := [vR 2 r0, vI (Int64.toInt32 (y1 >>> (Int32.toInt64 ((8 : Int32) * x4) &&& 63)))]) okX2_put rfl rfl rfl rfl rfl rfl (jstp_virtual (sa := [vI (Int64.toInt32 (y1 >>> (Int32.toInt64 ((8 : Int32) * x4) &&& 63)))]) (st := []) (k := 0) rfl rfl sX2_put okX2_put g_2 (one2.k g_2) rfl rfl) w (fun h_3 _ _ w => ?_)
    refine jw_iinc (pc' := 25) (y := x4 + (-1 : Int32)) (ls' := [some (vR 2 r0), some (vL y1), none, none, some (vI (x4 + (-1 : Int32)))]) rfl (by decide) rfl rfl rfl ?_
    refine jw_goto (pc' := 5) rfl rfl ?_
    exact hK5 _ _ _ _ w
def L_X2_number_5 (D : JD) (d : Nat) (Q : JO → JH → Prop) : Nat → Nat → Int64 → Int32 → JH → Prop
  | 0 => fun _ _ _ _ => False
  | n + 1 => fun r0 y1 x4 h => W_X2_number_5 D d Q (L_X2_number_5 D d Q n) r0 y1 x4 h
theorem l_X2_number_5 {D : JD} {d : Nat} {Q : JO → JH → Prop} : ∀ (n : Nat) (r0 : Nat) (y1 : Int64) (x4 : Int32) (h : JH), L_X2_number_5 D d Q n r0 y1 x4 h → JW D (d + 1) mX2_number 5 [some (vR 2 r0), some (vL y1), none, none, some (vI x4)] [] h Q := by
  intro n
  induction n with
  | zero => intro _ _ _ _ w; exact w.elim
  | succ n ih => intro _ _ _ h w; exact w_X2_number_5 ih w
def W_X2_number_0 (D : JD) (d : Nat) (Q : JO → JH → Prop) (r0 : Nat) (y1 : Int64) (x3 : Int32) (h : JH) : Prop :=
  ∃ n, L_X2_number_5 D d Q n r0 y1 (x3 - (1 : Int32)) h
theorem w_X2_number_0 {D : JD} {d : Nat} {Q : JO → JH → Prop} {r0 : Nat} {y1 : Int64} {x3 : Int32} {h : JH} (w : W_X2_number_0 D d Q r0 y1 x3 h) : JW D (d + 1) mX2_number 0 [some (vR 2 r0), some (vL y1), none, some (vI x3), none] [] h Q := by
  unfold W_X2_number_0 at w
  refine jw_iload_n (pc' := 1) rfl rfl ?_
  refine jw_iconst (pc' := 2) (x := (1 : Int32)) rfl rfl ?_
  refine jw_isub (pc' := 3) rfl ?_
  refine jw_istore (pc' := 5) (ls' := [some (vR 2 r0), some (vL y1), none, some (vI x3), some (vI (x3 - (1 : Int32)))]) rfl (by decide) rfl ?_
  refine jw_gen (ls' := [some (vR 2 r0), some (vL y1), none, none, some (vI (x3 - (1 : Int32)))]) (st' := []) (And.intro (Or.inl rfl) (And.intro (Or.inl rfl) (And.intro (Or.inl rfl) (trivial)))) (trivial) ?_
  obtain ⟨n, w⟩ := w
  exact l_X2_number_5 n _ _ _ _ w
def T_X2_number (D : JD) (d : Nat) (Q : JO → JH → Prop) (r0 : Nat) (y1 : Int64) (x3 : Int32) (h : JH) : Prop := W_X2_number_0 D d Q r0 y1 x3 h
theorem t_X2_number {D : JD} {d : Nat} {Q : JO → JH → Prop} {r0 : Nat} {y1 : Int64} {x3 : Int32} {h : JH} (w : T_X2_number D d Q r0 y1 x3 h) : cX2_number D (d + 1) r0 y1 x3 h Q := by
  unfold T_X2_number at w
  unfold cX2_number
  exact w_X2_number_0 w
def W_X2_close_12 (D : JD) (d : Nat) (Q : JO → JH → Prop) (K12 : Nat → Int32 → Int32 → JH → Prop) (r0 : Nat) (x1 : Int32) (x2 : Int32) (h : JH) : Prop :=
  ((4 : Int32) ≤ x2 → Q (.inl none) h) ∧ (¬ (4 : Int32) ≤ x2 → r0 ≠ 0 ∧ ((jfr h 17 r0) ≠ 0 ∧ jin ((jfi h 19 r0) + x2) (jln h (jfr h 17 r0)) ∧ ∀ h_5 : JH, h_5 = wai h (jfr h 17 r0) (ixn ((jfi h 19 r0) + x2)) ((Int32.toInt8 ((Int32.toInt8 (x1 >>> (((24 : Int32) - ((8 : Int32) * x2)) &&& 31))).toInt32)).toInt32) → (K12 r0 x1 (x2 + (1 : Int32)) h_5)))
theorem w_X2_close_12 {D : JD} {d : Nat} {Q : JO → JH → Prop} {K12 : Nat → Int32 → Int32 → JH → Prop} {r0 : Nat} {x1 : Int32} {x2 : Int32} {h : JH} (hK12 : ∀ (r0 : Nat) (x1 : Int32) (x2 : Int32) (h : JH), K12 r0 x1 x2 h → JW D (d + 1) mX2_close 12 [some (vR 2 r0), some (vI x1), some (vI x2)] [] h Q) (w : W_X2_close_12 D d Q K12 r0 x1 x2 h) : JW D (d + 1) mX2_close 12 [some (vR 2 r0), some (vI x1), some (vI x2)] [] h Q := by
  unfold W_X2_close_12 at w
  refine jw_iload_n (pc' := 13) rfl rfl ?_
  refine jw_iconst (pc' := 14) (x := (4 : Int32)) rfl rfl ?_
  refine jw_icmp_ge (tgt := 44) (pc' := 17) rfl rfl (fun c_1 => ?_) (fun c_1 => ?_)
  · replace w := w.1 c_1
    exact jw_return rfl rfl w
  · replace w := w.2 c_1
    refine jw_aload_n (pc' := 18) rfl rfl ?_
    obtain ⟨g_2, w⟩ := w
    refine jw_getR (pc' := 21) (F := 17) (t' := 127) rfl rfl rfl rfl rfl g_2 ?_
    refine jw_aload_n (pc' := 22) rfl rfl ?_
    refine jw_getI (pc' := 25) (F := 19) rfl rfl rfl rfl g_2 ?_
    refine jw_iload_n (pc' := 26) rfl rfl ?_
    refine jw_iadd (pc' := 27) rfl ?_
    refine jw_iload_n (pc' := 28) rfl rfl ?_
    refine jw_bipush (pc' := 30) (x := (24 : Int32)) rfl rfl ?_
    refine jw_bipush (pc' := 32) (x := (8 : Int32)) rfl rfl ?_
    refine jw_iload_n (pc' := 33) rfl rfl ?_
    refine jw_imul (pc' := 34) rfl ?_
    refine jw_isub (pc' := 35) rfl ?_
    refine jw_ishr (pc' := 36) rfl ?_
    refine jw_i2b (pc' := 37) rfl ?_
    obtain ⟨g_3, w⟩ := w
    obtain ⟨g_4, w⟩ := w
    refine jw_bast' (pc' := 38) rfl rfl rfl rfl rfl g_3 g_4 (fun h_5 e_6 => ?_)
    replace w := w h_5 e_6
    refine jw_iinc (pc' := 41) (y := x2 + (1 : Int32)) (ls' := [some (vR 2 r0), some (vI x1), some (vI (x2 + (1 : Int32)))]) rfl (by decide) rfl rfl rfl ?_
    refine jw_goto (pc' := 12) rfl rfl ?_
    exact hK12 _ _ _ _ w
def L_X2_close_12 (D : JD) (d : Nat) (Q : JO → JH → Prop) : Nat → Nat → Int32 → Int32 → JH → Prop
  | 0 => fun _ _ _ _ => False
  | n + 1 => fun r0 x1 x2 h => W_X2_close_12 D d Q (L_X2_close_12 D d Q n) r0 x1 x2 h
theorem l_X2_close_12 {D : JD} {d : Nat} {Q : JO → JH → Prop} : ∀ (n : Nat) (r0 : Nat) (x1 : Int32) (x2 : Int32) (h : JH), L_X2_close_12 D d Q n r0 x1 x2 h → JW D (d + 1) mX2_close 12 [some (vR 2 r0), some (vI x1), some (vI x2)] [] h Q := by
  intro n
  induction n with
  | zero => intro _ _ _ _ w; exact w.elim
  | succ n ih => intro _ _ _ h w; exact w_X2_close_12 ih w
def W_X2_close_0 (D : JD) (d : Nat) (Q : JO → JH → Prop) (r0 : Nat) (h : JH) : Prop :=
  r0 ≠ 0 ∧ (∃ n, L_X2_close_12 D d Q n r0 ((jfi h 18 r0) - (jfi h 19 r0)) (0 : Int32) h)
theorem w_X2_close_0 {D : JD} {d : Nat} {Q : JO → JH → Prop} {r0 : Nat} {h : JH} (w : W_X2_close_0 D d Q r0 h) : JW D (d + 1) mX2_close 0 [some (vR 2 r0), none, none] [] h Q := by
  unfold W_X2_close_0 at w
  refine jw_aload_n (pc' := 1) rfl rfl ?_
  obtain ⟨g_1, w⟩ := w
  refine jw_getI (pc' := 4) (F := 18) rfl rfl rfl rfl g_1 ?_
  refine jw_aload_n (pc' := 5) rfl rfl ?_
  refine jw_getI (pc' := 8) (F := 19) rfl rfl rfl rfl g_1 ?_
  refine jw_isub (pc' := 9) rfl ?_
  refine jw_istore_n (pc' := 10) (ls' := [some (vR 2 r0), some (vI ((jfi h 18 r0) - (jfi h 19 r0))), none]) rfl (by decide) rfl ?_
  refine jw_iconst (pc' := 11) (x := (0 : Int32)) rfl rfl ?_
  refine jw_istore_n (pc' := 12) (ls' := [some (vR 2 r0), some (vI ((jfi h 18 r0) - (jfi h 19 r0))), some (vI (0 : Int32))]) rfl (by decide) rfl ?_
  obtain ⟨n, w⟩ := w
  exact l_X2_close_12 n _ _ _ _ w
def T_X2_close (D : JD) (d : Nat) (Q : JO → JH → Prop) (r0 : Nat) (h : JH) : Prop := W_X2_close_0 D d Q r0 h
theorem t_X2_close {D : JD} {d : Nat} {Q : JO → JH → Prop} {r0 : Nat} {h : JH} (w : T_X2_close D d Q r0 h) : cX2_close D (d + 1) r0 h Q := by
  unfold T_X2_close at w
  unfold cX2_close
  exact w_X2_close_0 w
def W_X2_string_2 (D : JD) (d : Nat) (Q : JO → JH → Prop) (K2 : Nat → Nat → Int32 → JH → Prop) (r0 : Nat) (r1 : Nat) (x2 : Int32) (h : JH) : Prop :=
  r1 ≠ 0 ∧ (cJ5_length D d r1 h (pI D h (fun v_4 h_2 => (v_4 ≤ x2 → r0 ≠ 0 ∧ (cX2_put D d r0 (0 : Int32) h_2 (pV D h_2 (fun h_7 => Q (.inl none) h_7) (jth Q)))) ∧ (¬ v_4 ≤ x2 → cJ5_charAt D d r1 x2 h_2 (pI D h_2 (fun v_12 h_10 => r0 ≠ 0 ∧ (cX2_put D d r0 v_12 h_10 (pV D h_10 (fun h_14 => K2 r0 r1 (x2 + (1 : Int32)) h_14) (jth Q)))) (jth Q)))) (jth Q)))
theorem w_X2_string_2 {D : JD} {d : Nat} {Q : JO → JH → Prop} {K2 : Nat → Nat → Int32 → JH → Prop} {r0 : Nat} {r1 : Nat} {x2 : Int32} {h : JH} (hK2 : ∀ (r0 : Nat) (r1 : Nat) (x2 : Int32) (h : JH), K2 r0 r1 x2 h → JW D (d + 1) mX2_string 2 [some (vR 2 r0), some (vR 64 r1), some (vI x2)] [] h Q) (w : W_X2_string_2 D d Q K2 r0 r1 x2 h) : JW D (d + 1) mX2_string 2 [some (vR 2 r0), some (vR 64 r1), some (vI x2)] [] h Q := by
  unfold W_X2_string_2 at w
  refine jw_iload_n (pc' := 3) rfl rfl ?_
  refine jw_aload_n (pc' := 4) rfl rfl ?_
  obtain ⟨g_1, w⟩ := w
  refine jw_cI (st := [vI x2]) (sa := [vR 64 r1]) okJ5_length rfl rfl rfl rfl rfl rfl (jstp_virtual (sa := []) (st := [vI x2]) (k := 0) rfl rfl sJ5_length okJ5_length g_1 (one64.k g_1) rfl rfl) w (fun v_4 h_2 _ _ w => ?_)
  refine jw_icmp_ge (tgt := 25) (pc' := 10) rfl rfl (fun c_5 => ?_) (fun c_5 => ?_)
  · replace w := w.1 c_5
    refine jw_aload_n (pc' := 26) rfl rfl ?_
    refine jw_iconst (pc' := 27) (x := (0 : Int32)) rfl rfl ?_
    obtain ⟨g_6, w⟩ := w
    refine jw_cV (st := []) (sa := [vR 2 r0, vI (0 : Int32)]) okX2_put rfl rfl rfl rfl rfl rfl (jstp_virtual (sa := [vI (0 : Int32)]) (st := []) (k := 0) rfl rfl sX2_put okX2_put g_6 (one2.k g_6) rfl rfl) w (fun h_7 _ _ w => ?_)
    exact jw_return rfl rfl w
  · replace w := w.2 c_5
    refine jw_aload_n (pc' := 11) rfl rfl ?_
    refine jw_aload_n (pc' := 12) rfl rfl ?_
    refine jw_iload_n (pc' := 13) rfl rfl ?_
    refine jw_cI (st := [vR 2 r0]) (sa := [vR 64 r1, vI x2]) okJ5_charAt rfl rfl rfl rfl rfl rfl (jstp_virtual (sa := [vI x2]) (st := [vR 2 r0]) (k := 0) rfl rfl sJ5_charAt okJ5_charAt g_1 (one64.k g_1) rfl rfl) w (fun v_12 h_10 _ _ w => ?_)
    obtain ⟨g_13, w⟩ := w
    refine jw_cV (st := []) (sa := [vR 2 r0, vI v_12]) okX2_put rfl rfl rfl rfl rfl rfl (jstp_virtual (sa := [vI v_12]) (st := []) (k := 0) rfl rfl sX2_put okX2_put g_13 (one2.k g_13) rfl rfl) w (fun h_14 _ _ w => ?_)
    refine jw_iinc (pc' := 22) (y := x2 + (1 : Int32)) (ls' := [some (vR 2 r0), some (vR 64 r1), some (vI (x2 + (1 : Int32)))]) rfl (by decide) rfl rfl rfl ?_
    refine jw_goto (pc' := 2) rfl rfl ?_
    exact hK2 _ _ _ _ w
def L_X2_string_2 (D : JD) (d : Nat) (Q : JO → JH → Prop) : Nat → Nat → Nat → Int32 → JH → Prop
  | 0 => fun _ _ _ _ => False
  | n + 1 => fun r0 r1 x2 h => W_X2_string_2 D d Q (L_X2_string_2 D d Q n) r0 r1 x2 h
theorem l_X2_string_2 {D : JD} {d : Nat} {Q : JO → JH → Prop} : ∀ (n : Nat) (r0 : Nat) (r1 : Nat) (x2 : Int32) (h : JH), L_X2_string_2 D d Q n r0 r1 x2 h → JW D (d + 1) mX2_string 2 [some (vR 2 r0), some (vR 64 r1), some (vI x2)] [] h Q := by
  intro n
  induction n with
  | zero => intro _ _ _ _ w; exact w.elim
  | succ n ih => intro _ _ _ h w; exact w_X2_string_2 ih w
def W_X2_string_0 (D : JD) (d : Nat) (Q : JO → JH → Prop) (r0 : Nat) (r1 : Nat) (h : JH) : Prop :=
  ∃ n, L_X2_string_2 D d Q n r0 r1 (0 : Int32) h
theorem w_X2_string_0 {D : JD} {d : Nat} {Q : JO → JH → Prop} {r0 : Nat} {r1 : Nat} {h : JH} (w : W_X2_string_0 D d Q r0 r1 h) : JW D (d + 1) mX2_string 0 [some (vR 2 r0), some (vR 64 r1), none] [] h Q := by
  unfold W_X2_string_0 at w
  refine jw_iconst (pc' := 1) (x := (0 : Int32)) rfl rfl ?_
  refine jw_istore_n (pc' := 2) (ls' := [some (vR 2 r0), some (vR 64 r1), some (vI (0 : Int32))]) rfl (by decide) rfl ?_
  obtain ⟨n, w⟩ := w
  exact l_X2_string_2 n _ _ _ _ w
def T_X2_string (D : JD) (d : Nat) (Q : JO → JH → Prop) (r0 : Nat) (r1 : Nat) (h : JH) : Prop := W_X2_string_0 D d Q r0 r1 h
theorem t_X2_string {D : JD} {d : Nat} {Q : JO → JH → Prop} {r0 : Nat} {r1 : Nat} {h : JH} (w : T_X2_string D d Q r0 r1 h) : cX2_string D (d + 1) r0 r1 h Q := by
  unfold T_X2_string at w
  unfold cX2_string
  exact w_X2_string_0 w
def W_X2_plain_0 (D : JD) (d : Nat) (Q : JO → JH → Prop) (r0 : Nat) (x1 : Int32) (h : JH) : Prop :=
  r0 ≠ 0 ∧ (cX2_open D d r0 x1 h (pR D h 2 (fun v_4 h_2 => cX2_close D d r0 h_2 (pV D h_2 (fun h_5 => Q (.inl none) h_5) (jth Q))) (jth Q)))
theorem w_X2_plain_0 {D : JD} {d : Nat} {Q : JO → JH → Prop} {r0 : Nat} {x1 : Int32} {h : JH} (w : W_X2_plain_0 D d Q r0 x1 h) : JW D (d + 1) mX2_plain 0 [some (vR 2 r0), some (vI x1)] [] h Q := by
  unfold W_X2_plain_0 at w
  refine jw_aload_n (pc' := 1) rfl rfl ?_
  refine jw_iload_n (pc' := 2) rfl rfl ?_
  obtain ⟨g_1, w⟩ := w
  refine jw_cR (st := []) (sa := [vR 2 r0, vI x1]) okX2_open rfl rfl rfl rfl rfl rfl (jstp_virtual (sa := [vI x1]) (st := []) (k := 0) rfl rfl sX2_open okX2_open g_1 (one2.k g_1) rfl rfl) w (fun v_4 h_2 _ _ _ w => ?_)
  refine jw_pop (pc' := 6) rfl rfl ?_
  refine jw_aload_n (pc' := 7) rfl rfl ?_
  refine jw_cV (st := []) (sa := [vR 2 r0]) okX2_close rfl rfl rfl rfl rfl rfl (jstp_virtual (sa := []) (st := []) (k := 0) rfl rfl sX2_close okX2_close g_1 (one2.k g_1) rfl rfl) w (fun h_5 _ _ w => ?_)
  exact jw_return rfl rfl w
def T_X2_plain (D : JD) (d : Nat) (Q : JO → JH → Prop) (r0 : Nat) (x1 : Int32) (h : JH) : Prop := W_X2_plain_0 D d Q r0 x1 h
theorem t_X2_plain {D : JD} {d : Nat} {Q : JO → JH → Prop} {r0 : Nat} {x1 : Int32} {h : JH} (w : T_X2_plain D d Q r0 x1 h) : cX2_plain D (d + 1) r0 x1 h Q := by
  unfold T_X2_plain at w
  unfold cX2_plain
  exact w_X2_plain_0 w
def W_X2_digits_50 (D : JD) (d : Nat) (Q : JO → JH → Prop) (K50 : Nat → Int64 → Int64 → JH → Prop) (r0 : Nat) (y3 : Int64) (y5 : Int64) (h : JH) : Prop :=
  ((lg_cmp y5 (0 : Int64)) ≤ 0 → Q (.inl none) h) ∧ (¬ (lg_cmp y5 (0 : Int64)) ≤ 0 → ¬ y5 = 0 ∧ (r0 ≠ 0 ∧ (cX2_put D d r0 ((Int64.toInt32 ((y3 / y5) - (y3 / y5) / (10 : Int64) * (10 : Int64))) + (48 : Int32)) h (pV D h (fun h_4 => K50 r0 y3 (y5 / (10 : Int64)) h_4) (jth Q)))))
theorem w_X2_digits_50 {D : JD} {d : Nat} {Q : JO → JH → Prop} {K50 : Nat → Int64 → Int64 → JH → Prop} {r0 : Nat} {y3 : Int64} {y5 : Int64} {h : JH} (hK50 : ∀ (r0 : Nat) (y3 : Int64) (y5 : Int64) (h : JH), K50 r0 y3 y5 h → JW D (d + 1) mX2_digits 50 [some (vR 2 r0), none, none, some (vL y3), none, some (vL y5), none] [] h Q) (w : W_X2_digits_50 D d Q K50 r0 y3 y5 h) : JW D (d + 1) mX2_digits 50 [some (vR 2 r0), none, none, some (vL y3), none, some (vL y5), none] [] h Q := by
  unfold W_X2_digits_50 at w
  refine jw_lload (pc' := 52) rfl rfl ?_
  refine jw_lconst (pc' := 53) (x := (0 : Int64)) rfl rfl ?_
  refine jw_lcmp (pc' := 54) rfl ?_
  refine jw_if_le (tgt := 84) (pc' := 57) rfl rfl (fun c_1 => ?_) (fun c_1 => ?_)
  · replace w := w.1 c_1
    exact jw_return rfl rfl w
  · replace w := w.2 c_1
    refine jw_aload_n (pc' := 58) rfl rfl ?_
    refine jw_lload_n (pc' := 59) rfl rfl ?_
    refine jw_lload (pc' := 61) rfl rfl ?_
    obtain ⟨g_2, w⟩ := w
    refine jw_ldiv (pc' := 62) rfl g_2 ?_
    refine jw_ldc2 (pc' := 65) (v := (10 : Int64)) rfl rfl ?_
    refine jw_lrem (pc' := 66) rfl (by decide) ?_
    refine jw_l2i (pc' := 67) rfl ?_
    refine jw_bipush (pc' := 69) (x := (48 : Int32)) rfl rfl ?_
    refine jw_iadd (pc' := 70) rfl ?_
    obtain ⟨g_3, w⟩ := w
    refine jw_cV (st := []) (sa := [vR 2 r0, vI ((Int64.toInt32 ((y3 / y5) - (y3 / y5) / (10 : Int64) * (10 : Int64))) + (48 : Int32))]) okX2_put rfl rfl rfl rfl rfl rfl (jstp_virtual (sa := [vI ((Int64.toInt32 ((y3 / y5) - (y3 / y5) / (10 : Int64) * (10 : Int64))) + (48 : Int32))]) (st := []) (k := 0) rfl rfl sX2_put okX2_put g_3 (one2.k g_3) rfl rfl) w (fun h_4 _ _ w => ?_)
    refine jw_lload (pc' := 75) rfl rfl ?_
    refine jw_ldc2 (pc' := 78) (v := (10 : Int64)) rfl rfl ?_
    refine jw_ldiv (pc' := 79) rfl (by decide) ?_
    refine jw_lstore (pc' := 81) (ls' := [some (vR 2 r0), none, none, some (vL y3), none, some (vL (y5 / (10 : Int64))), none]) rfl (by decide) rfl ?_
    refine jw_goto (pc' := 50) rfl rfl ?_
    exact hK50 _ _ _ _ w
def L_X2_digits_50 (D : JD) (d : Nat) (Q : JO → JH → Prop) : Nat → Nat → Int64 → Int64 → JH → Prop
  | 0 => fun _ _ _ _ => False
  | n + 1 => fun r0 y3 y5 h => W_X2_digits_50 D d Q (L_X2_digits_50 D d Q n) r0 y3 y5 h
theorem l_X2_digits_50 {D : JD} {d : Nat} {Q : JO → JH → Prop} : ∀ (n : Nat) (r0 : Nat) (y3 : Int64) (y5 : Int64) (h : JH), L_X2_digits_50 D d Q n r0 y3 y5 h → JW D (d + 1) mX2_digits 50 [some (vR 2 r0), none, none, some (vL y3), none, some (vL y5), none] [] h Q := by
  intro n
  induction n with
  | zero => intro _ _ _ _ w; exact w.elim
  | succ n ih => intro _ _ _ h w; exact w_X2_digits_50 ih w
def W_X2_digits_28 (D : JD) (d : Nat) (Q : JO → JH → Prop) (K28 : Nat → Int64 → Int64 → JH → Prop) (r0 : Nat) (y3 : Int64) (y5 : Int64) (h : JH) : Prop :=
  (0 < (lg_cmp y5 (y3 / (10 : Int64))) → ∃ n, L_X2_digits_50 D d Q n r0 y3 y5 h) ∧ (¬ 0 < (lg_cmp y5 (y3 / (10 : Int64))) → K28 r0 y3 (y5 * (10 : Int64)) h)
theorem w_X2_digits_28 {D : JD} {d : Nat} {Q : JO → JH → Prop} {K28 : Nat → Int64 → Int64 → JH → Prop} {r0 : Nat} {y3 : Int64} {y5 : Int64} {h : JH} (hK28 : ∀ (r0 : Nat) (y3 : Int64) (y5 : Int64) (h : JH), K28 r0 y3 y5 h → JW D (d + 1) mX2_digits 28 [some (vR 2 r0), none, none, some (vL y3), none, some (vL y5), none] [] h Q) (w : W_X2_digits_28 D d Q K28 r0 y3 y5 h) : JW D (d + 1) mX2_digits 28 [some (vR 2 r0), none, none, some (vL y3), none, some (vL y5), none] [] h Q := by
  unfold W_X2_digits_28 at w
  refine jw_lload (pc' := 30) rfl rfl ?_
  refine jw_lload_n (pc' := 31) rfl rfl ?_
  refine jw_ldc2 (pc' := 34) (v := (10 : Int64)) rfl rfl ?_
  refine jw_ldiv (pc' := 35) rfl (by decide) ?_
  refine jw_lcmp (pc' := 36) rfl ?_
  refine jw_if_gt (tgt := 50) (pc' := 39) rfl rfl (fun c_1 => ?_) (fun c_1 => ?_)
  · replace w := w.1 c_1
    obtain ⟨n, w⟩ := w
    exact l_X2_digits_50 n _ _ _ _ w
  · replace w := w.2 c_1
    refine jw_lload (pc' := 41) rfl rfl ?_
    refine jw_ldc2 (pc' := 44) (v := (10 : Int64)) rfl rfl ?_
    refine jw_lmul (pc' := 45) rfl ?_
    refine jw_lstore (pc' := 47) (ls' := [some (vR 2 r0), none, none, some (vL y3), none, some (vL (y5 * (10 : Int64))), none]) rfl (by decide) rfl ?_
    refine jw_goto (pc' := 28) rfl rfl ?_
    exact hK28 _ _ _ _ w
def L_X2_digits_28 (D : JD) (d : Nat) (Q : JO → JH → Prop) : Nat → Nat → Int64 → Int64 → JH → Prop
  | 0 => fun _ _ _ _ => False
  | n + 1 => fun r0 y3 y5 h => W_X2_digits_28 D d Q (L_X2_digits_28 D d Q n) r0 y3 y5 h
theorem l_X2_digits_28 {D : JD} {d : Nat} {Q : JO → JH → Prop} : ∀ (n : Nat) (r0 : Nat) (y3 : Int64) (y5 : Int64) (h : JH), L_X2_digits_28 D d Q n r0 y3 y5 h → JW D (d + 1) mX2_digits 28 [some (vR 2 r0), none, none, some (vL y3), none, some (vL y5), none] [] h Q := by
  intro n
  induction n with
  | zero => intro _ _ _ _ w; exact w.elim
  | succ n ih => intro _ _ _ h w; exact w_X2_digits_28 ih w
def W_X2_digits_24 (D : JD) (d : Nat) (Q : JO → JH → Prop) (r0 : Nat) (t0 : Int64) (h : JH) : Prop :=
  ∃ n, L_X2_digits_28 D d Q n r0 t0 (1 : Int64) h
theorem w_X2_digits_24 {D : JD} {d : Nat} {Q : JO → JH → Prop} {r0 : Nat} {t0 : Int64} {h : JH} (w : W_X2_digits_24 D d Q r0 t0 h) : JW D (d + 1) mX2_digits 24 [some (vR 2 r0), none, none, none, none, none, none] [vL t0] h Q := by
  unfold W_X2_digits_24 at w
  refine jw_lstore_n (pc' := 25) (ls' := [some (vR 2 r0), none, none, some (vL t0), none, none, none]) rfl (by decide) rfl ?_
  refine jw_lconst (pc' := 26) (x := (1 : Int64)) rfl rfl ?_
  refine jw_lstore (pc' := 28) (ls' := [some (vR 2 r0), none, none, some (vL t0), none, some (vL (1 : Int64)), none]) rfl (by decide) rfl ?_
  obtain ⟨n, w⟩ := w
  exact l_X2_digits_28 n _ _ _ _ w
def W_X2_digits_12 (D : JD) (d : Nat) (Q : JO → JH → Prop) (r0 : Nat) (y1 : Int64) (h : JH) : Prop :=
  (0 ≤ (lg_cmp y1 (0 : Int64)) → W_X2_digits_24 D d Q r0 y1 h) ∧ (¬ 0 ≤ (lg_cmp y1 (0 : Int64)) → W_X2_digits_24 D d Q r0 (-y1) h)
theorem w_X2_digits_12 {D : JD} {d : Nat} {Q : JO → JH → Prop} {r0 : Nat} {y1 : Int64} {h : JH} (w : W_X2_digits_12 D d Q r0 y1 h) : JW D (d + 1) mX2_digits 12 [some (vR 2 r0), some (vL y1), none, none, none, none, none] [] h Q := by
  unfold W_X2_digits_12 at w
  refine jw_lload_n (pc' := 13) rfl rfl ?_
  refine jw_lconst (pc' := 14) (x := (0 : Int64)) rfl rfl ?_
  refine jw_lcmp (pc' := 15) rfl ?_
  refine jw_if_ge (tgt := 23) (pc' := 18) rfl rfl (fun c_1 => ?_) (fun c_1 => ?_)
  · replace w := w.1 c_1
    refine jw_lload_n (pc' := 24) rfl rfl ?_
    refine jw_gen (ls' := [some (vR 2 r0), none, none, none, none, none, none]) (st' := [vL y1]) (And.intro (Or.inl rfl) (trivial)) (And.intro (Or.inl rfl) (trivial)) ?_
    exact w_X2_digits_24 w
  · replace w := w.2 c_1
    refine jw_lload_n (pc' := 19) rfl rfl ?_
    refine jw_lneg (pc' := 20) rfl ?_
    refine jw_goto (pc' := 24) rfl rfl ?_
    refine jw_gen (ls' := [some (vR 2 r0), none, none, none, none, none, none]) (st' := [vL (-y1)]) (And.intro (Or.inl rfl) (trivial)) (And.intro (Or.inl rfl) (trivial)) ?_
    exact w_X2_digits_24 w
def W_X2_digits_0 (D : JD) (d : Nat) (Q : JO → JH → Prop) (r0 : Nat) (y1 : Int64) (h : JH) : Prop :=
  (0 ≤ (lg_cmp y1 (0 : Int64)) → W_X2_digits_12 D d Q r0 y1 h) ∧ (¬ 0 ≤ (lg_cmp y1 (0 : Int64)) → r0 ≠ 0 ∧ (cX2_put D d r0 (45 : Int32) h (pV D h (fun h_3 => W_X2_digits_12 D d Q r0 y1 h_3) (jth Q))))
theorem w_X2_digits_0 {D : JD} {d : Nat} {Q : JO → JH → Prop} {r0 : Nat} {y1 : Int64} {h : JH} (w : W_X2_digits_0 D d Q r0 y1 h) : JW D (d + 1) mX2_digits 0 [some (vR 2 r0), some (vL y1), none, none, none, none, none] [] h Q := by
  unfold W_X2_digits_0 at w
  refine jw_lload_n (pc' := 1) rfl rfl ?_
  refine jw_lconst (pc' := 2) (x := (0 : Int64)) rfl rfl ?_
  refine jw_lcmp (pc' := 3) rfl ?_
  refine jw_if_ge (tgt := 12) (pc' := 6) rfl rfl (fun c_1 => ?_) (fun c_1 => ?_)
  · replace w := w.1 c_1
    exact w_X2_digits_12 w
  · replace w := w.2 c_1
    refine jw_aload_n (pc' := 7) rfl rfl ?_
    refine jw_bipush (pc' := 9) (x := (45 : Int32)) rfl rfl ?_
    obtain ⟨g_2, w⟩ := w
    refine jw_cV (st := []) (sa := [vR 2 r0, vI (45 : Int32)]) okX2_put rfl rfl rfl rfl rfl rfl (jstp_virtual (sa := [vI (45 : Int32)]) (st := []) (k := 0) rfl rfl sX2_put okX2_put g_2 (one2.k g_2) rfl rfl) w (fun h_3 _ _ w => ?_)
    exact w_X2_digits_12 w
def T_X2_digits (D : JD) (d : Nat) (Q : JO → JH → Prop) (r0 : Nat) (y1 : Int64) (h : JH) : Prop := W_X2_digits_0 D d Q r0 y1 h
theorem t_X2_digits {D : JD} {d : Nat} {Q : JO → JH → Prop} {r0 : Nat} {y1 : Int64} {h : JH} (w : T_X2_digits D d Q r0 y1 h) : cX2_digits D (d + 1) r0 y1 h Q := by
  unfold T_X2_digits at w
  unfold cX2_digits
  exact w_X2_digits_0 w
def W_X2_copy_3 (D : JD) (d : Nat) (Q : JO → JH → Prop) (K3 : Nat → Nat → Int32 → Int32 → Int32 → JH → Prop) (r0 : Nat) (r1 : Nat) (x2 : Int32) (x3 : Int32) (x4 : Int32) (h : JH) : Prop :=
  (x3 ≤ x4 → Q (.inl none) h) ∧ (¬ x3 ≤ x4 → r1 ≠ 0 ∧ jin (x2 + x4) (jln h r1) ∧ (r0 ≠ 0 ∧ (cX2_put D d r0 (jai h r1 (ixn (x2 + x4))) h (pV D h (fun h_5 => K3 r0 r1 x2 x3 (x4 + (1 : Int32)) h_5) (jth Q)))))
theorem w_X2_copy_3 {D : JD} {d : Nat} {Q : JO → JH → Prop} {K3 : Nat → Nat → Int32 → Int32 → Int32 → JH → Prop} {r0 : Nat} {r1 : Nat} {x2 : Int32} {x3 : Int32} {x4 : Int32} {h : JH} (hK3 : ∀ (r0 : Nat) (r1 : Nat) (x2 : Int32) (x3 : Int32) (x4 : Int32) (h : JH), K3 r0 r1 x2 x3 x4 h → JW D (d + 1) mX2_copy 3 [some (vR 2 r0), some (vR 65 r1), some (vI x2), some (vI x3), some (vI x4)] [] h Q) (w : W_X2_copy_3 D d Q K3 r0 r1 x2 x3 x4 h) : JW D (d + 1) mX2_copy 3 [some (vR 2 r0), some (vR 65 r1), some (vI x2), some (vI x3), some (vI x4)] [] h Q := by
  unfold W_X2_copy_3 at w
  refine jw_iload (pc' := 5) rfl rfl ?_
  refine jw_iload_n (pc' := 6) rfl rfl ?_
  refine jw_icmp_ge (tgt := 25) (pc' := 9) rfl rfl (fun c_1 => ?_) (fun c_1 => ?_)
  · replace w := w.1 c_1
    exact jw_return rfl rfl w
  · replace w := w.2 c_1
    refine jw_aload_n (pc' := 10) rfl rfl ?_
    refine jw_aload_n (pc' := 11) rfl rfl ?_
    refine jw_iload_n (pc' := 12) rfl rfl ?_
    refine jw_iload (pc' := 14) rfl rfl ?_
    refine jw_iadd (pc' := 15) rfl ?_
    obtain ⟨g_2, w⟩ := w
    obtain ⟨g_3, w⟩ := w
    refine jw_bald (pc' := 16) rfl rfl rfl rfl g_2 g_3.ix g_3.2 ?_
    obtain ⟨g_4, w⟩ := w
    refine jw_cV (st := []) (sa := [vR 2 r0, vI (jai h r1 (ixn (x2 + x4)))]) okX2_put rfl rfl rfl rfl rfl rfl (jstp_virtual (sa := [vI (jai h r1 (ixn (x2 + x4)))]) (st := []) (k := 0) rfl rfl sX2_put okX2_put g_4 (one2.k g_4) rfl rfl) w (fun h_5 _ _ w => ?_)
    refine jw_iinc (pc' := 22) (y := x4 + (1 : Int32)) (ls' := [some (vR 2 r0), some (vR 65 r1), some (vI x2), some (vI x3), some (vI (x4 + (1 : Int32)))]) rfl (by decide) rfl rfl rfl ?_
    refine jw_goto (pc' := 3) rfl rfl ?_
    exact hK3 _ _ _ _ _ _ w
def L_X2_copy_3 (D : JD) (d : Nat) (Q : JO → JH → Prop) : Nat → Nat → Nat → Int32 → Int32 → Int32 → JH → Prop
  | 0 => fun _ _ _ _ _ _ => False
  | n + 1 => fun r0 r1 x2 x3 x4 h => W_X2_copy_3 D d Q (L_X2_copy_3 D d Q n) r0 r1 x2 x3 x4 h
theorem l_X2_copy_3 {D : JD} {d : Nat} {Q : JO → JH → Prop} : ∀ (n : Nat) (r0 : Nat) (r1 : Nat) (x2 : Int32) (x3 : Int32) (x4 : Int32) (h : JH), L_X2_copy_3 D d Q n r0 r1 x2 x3 x4 h → JW D (d + 1) mX2_copy 3 [some (vR 2 r0), some (vR 65 r1), some (vI x2), some (vI x3), some (vI x4)] [] h Q := by
  intro n
  induction n with
  | zero => intro _ _ _ _ _ _ w; exact w.elim
  | succ n ih => intro _ _ _ _ _ h w; exact w_X2_copy_3 ih w
def W_X2_copy_0 (D : JD) (d : Nat) (Q : JO → JH → Prop) (r0 : Nat) (r1 : Nat) (x2 : Int32) (x3 : Int32) (h : JH) : Prop :=
  ∃ n, L_X2_copy_3 D d Q n r0 r1 x2 x3 (0 : Int32) h
theorem w_X2_copy_0 {D : JD} {d : Nat} {Q : JO → JH → Prop} {r0 : Nat} {r1 : Nat} {x2 : Int32} {x3 : Int32} {h : JH} (w : W_X2_copy_0 D d Q r0 r1 x2 x3 h) : JW D (d + 1) mX2_copy 0 [some (vR 2 r0), some (vR 65 r1), some (vI x2), some (vI x3), none] [] h Q := by
  unfold W_X2_copy_0 at w
  refine jw_iconst (pc' := 1) (x := (0 : Int32)) rfl rfl ?_
  refine jw_istore (pc' := 3) (ls' := [some (vR 2 r0), some (vR 65 r1), some (vI x2), some (vI x3), some (vI (0 : Int32))]) rfl (by decide) rfl ?_
  obtain ⟨n, w⟩ := w
  exact l_X2_copy_3 n _ _ _ _ _ _ w
def T_X2_copy (D : JD) (d : Nat) (Q : JO → JH → Prop) (r0 : Nat) (r1 : Nat) (x2 : Int32) (x3 : Int32) (h : JH) : Prop := W_X2_copy_0 D d Q r0 r1 x2 x3 h
theorem t_X2_copy {D : JD} {d : Nat} {Q : JO → JH → Prop} {r0 : Nat} {r1 : Nat} {x2 : Int32} {x3 : Int32} {h : JH} (w : T_X2_copy D d Q r0 r1 x2 x3 h) : cX2_copy D (d + 1) r0 r1 x2 x3 h Q := by
  unfold T_X2_copy at w
  unfold cX2_copy
  exact w_X2_copy_0 w
def W_X20_init_0 (D : JD) (d : Nat) (Q : JO → JH → Prop) (r0 : Nat) (h : JH) : Prop :=
  r0 ≠ 0 ∧ (Q (.inl none) h)
theorem w_X20_init_0 {D : JD} {d : Nat} {Q : JO → JH → Prop} {r0 : Nat} {h : JH} (w : W_X20_init_0 D d Q r0 h) : JW D (d + 1) mX20_init 0 [some (vR 57 r0)] [] h Q := by
  unfold W_X20_init_0 at w
  refine jw_aload_n (pc' := 1) rfl rfl ?_
  obtain ⟨g_1, w⟩ := w
  refine jw_obj (pc' := 4) rfl (lw_g (jtb_mem (c := 6) (i := 189) rfl) rfl) rfl g_1 ?_
  exact jw_return rfl rfl w
def T_X20_init (D : JD) (d : Nat) (Q : JO → JH → Prop) (r0 : Nat) (h : JH) : Prop := W_X20_init_0 D d Q r0 h
theorem t_X20_init {D : JD} {d : Nat} {Q : JO → JH → Prop} {r0 : Nat} {h : JH} (w : T_X20_init D d Q r0 h) : cX20_init D (d + 1) r0 h Q := by
  unfold T_X20_init at w
  unfold cX20_init
  exact w_X20_init_0 w
def W_X20_truth_15 (D : JD) (d : Nat) (Q : JO → JH → Prop) (h : JH) : Prop :=
  Q (.inl none) h
theorem w_X20_truth_15 {D : JD} {d : Nat} {Q : JO → JH → Prop} {h : JH} (w : W_X20_truth_15 D d Q h) : JW D (d + 1) mX20_truth 15 [none, none] [] h Q := by
  unfold W_X20_truth_15 at w
  exact jw_return rfl rfl w
def W_X20_truth_9 (D : JD) (d : Nat) (Q : JO → JH → Prop) (q0 : Nat) (h : JH) : Prop :=
  cX24_need D d q0 (jcs D 357) h (pV D h (fun h_1 => W_X20_truth_15 D d Q h_1) (jth Q))
theorem w_X20_truth_9 {D : JD} {d : Nat} {Q : JO → JH → Prop} {q0 : Nat} {h : JH} (w : W_X20_truth_9 D d Q q0 h) : JW D (d + 1) mX20_truth 9 [none, none] [vR 52 q0] h Q := by
  unfold W_X20_truth_9 at w
  refine jw_getsR (pc' := 12) rfl rfl rfl rfl ?_
  refine jw_cV (st := []) (sa := [vR 52 q0, vR 52 (jcs D 357)]) okX24_need rfl rfl rfl rfl rfl rfl (jstp_static (sa := [vR 52 q0, vR 52 (jcs D 357)]) (st := []) rfl rfl sX24_need okX24_need rfl rfl) w (fun h_1 _ _ w => ?_)
  exact w_X20_truth_15 w
def W_X20_truth_0 (D : JD) (d : Nat) (Q : JO → JH → Prop) (r0 : Nat) (r1 : Nat) (h : JH) : Prop :=
  (r0 = 0 → W_X20_truth_15 D d Q h) ∧ (r0 ≠ 0 → v55_check D d r0 r1 h (pR D h 52 (fun v_4 h_2 => W_X20_truth_9 D d Q v_4 h_2) (jth Q)))
theorem w_X20_truth_0 {D : JD} {d : Nat} {Q : JO → JH → Prop} {r0 : Nat} {r1 : Nat} {h : JH} (w : W_X20_truth_0 D d Q r0 r1 h) : JW D (d + 1) mX20_truth 0 [some (vR 55 r0), some (vR 6 r1)] [] h Q := by
  unfold W_X20_truth_0 at w
  refine jw_aload_n (pc' := 1) rfl rfl ?_
  refine jw_ifnull (tgt := 15) (pc' := 4) rfl rfl (fun c_1 => ?_) (fun c_1 => ?_)
  · replace w := w.1 c_1
    refine jw_gen (ls' := [none, none]) (st' := []) (trivial) (trivial) ?_
    exact w_X20_truth_15 w
  · replace w := w.2 c_1
    refine jw_aload_n (pc' := 5) rfl rfl ?_
    refine jw_aload_n (pc' := 6) rfl rfl ?_
    refine JW.inv (fun hI => JW.oks (fun ho => ?_))
    have hkd := und55.k hI (ho (vR 55 r0) (by simp)) c_1
    simp only [List.mem_cons, List.not_mem_nil, or_false] at hkd
    clear ho hI
    rcases hkd with e_5 | e_5 | e_5 | e_5 | e_5 | e_5 | e_5 | e_5 | e_5 | e_5
    · refine jw_gen (ls' := _) (st' := [vR 6 r1, vR 20 r0]) (jgl_rf _ _) (And.intro (Or.inl rfl) (And.intro (Or.inr ⟨_, _, _, rfl, rfl, Or.inr (Or.inr (by rw [e_5]; rfl))⟩) (jgs_rf _ _))) ?_
      refine jw_cR (st := []) (sa := [vR 20 r0, vR 6 r1]) okX25_check rfl rfl rfl rfl rfl rfl (jstp_up (sa := [vR 6 r1]) (st := []) rfl (lw_g (jtb_mem (c := 10) (i := 44) rfl) rfl) um18 okX25_check c_1 (fun _ _ => by rw [e_5]; exact ⟨rfl, rfl⟩) rfl rfl) (w.1 e_5) (fun v_4 h_2 _ _ _ w => ?_)
      refine jw_gen (ls' := [none, none]) (st' := [vR 52 v_4]) (trivial) (And.intro (Or.inl rfl) (trivial)) ?_
      exact w_X20_truth_9 w
    · refine jw_gen (ls' := _) (st' := [vR 6 r1, vR 21 r0]) (jgl_rf _ _) (And.intro (Or.inl rfl) (And.intro (Or.inr ⟨_, _, _, rfl, rfl, Or.inr (Or.inr (by rw [e_5]; rfl))⟩) (jgs_rf _ _))) ?_
      refine jw_cR (st := []) (sa := [vR 21 r0, vR 6 r1]) okX27_check rfl rfl rfl rfl rfl rfl (jstp_up (sa := [vR 6 r1]) (st := []) rfl (lw_g (jtb_mem (c := 10) (i := 44) rfl) rfl) um19 okX27_check c_1 (fun _ _ => by rw [e_5]; exact ⟨rfl, rfl⟩) rfl rfl) (w.2.1 e_5) (fun v_4 h_2 _ _ _ w => ?_)
      refine jw_gen (ls' := [none, none]) (st' := [vR 52 v_4]) (trivial) (And.intro (Or.inl rfl) (trivial)) ?_
      exact w_X20_truth_9 w
    · refine jw_gen (ls' := _) (st' := [vR 6 r1, vR 22 r0]) (jgl_rf _ _) (And.intro (Or.inl rfl) (And.intro (Or.inr ⟨_, _, _, rfl, rfl, Or.inr (Or.inr (by rw [e_5]; rfl))⟩) (jgs_rf _ _))) ?_
      refine jw_cR (st := []) (sa := [vR 22 r0, vR 6 r1]) okX28_check rfl rfl rfl rfl rfl rfl (jstp_up (sa := [vR 6 r1]) (st := []) rfl (lw_g (jtb_mem (c := 10) (i := 44) rfl) rfl) um20 okX28_check c_1 (fun _ _ => by rw [e_5]; exact ⟨rfl, rfl⟩) rfl rfl) (w.2.2.1 e_5) (fun v_4 h_2 _ _ _ w => ?_)
      refine jw_gen (ls' := [none, none]) (st' := [vR 52 v_4]) (trivial) (And.intro (Or.inl rfl) (trivial)) ?_
      exact w_X20_truth_9 w
    · refine jw_gen (ls' := _) (st' := [vR 6 r1, vR 23 r0]) (jgl_rf _ _) (And.intro (Or.inl rfl) (And.intro (Or.inr ⟨_, _, _, rfl, rfl, Or.inr (Or.inr (by rw [e_5]; rfl))⟩) (jgs_rf _ _))) ?_
      refine jw_cR (st := []) (sa := [vR 23 r0, vR 6 r1]) okX29_check rfl rfl rfl rfl rfl rfl (jstp_up (sa := [vR 6 r1]) (st := []) rfl (lw_g (jtb_mem (c := 10) (i := 44) rfl) rfl) um21 okX29_check c_1 (fun _ _ => by rw [e_5]; exact ⟨rfl, rfl⟩) rfl rfl) (w.2.2.2.1 e_5) (fun v_4 h_2 _ _ _ w => ?_)
      refine jw_gen (ls' := [none, none]) (st' := [vR 52 v_4]) (trivial) (And.intro (Or.inl rfl) (trivial)) ?_
      exact w_X20_truth_9 w
    · refine jw_gen (ls' := _) (st' := [vR 6 r1, vR 24 r0]) (jgl_rf _ _) (And.intro (Or.inl rfl) (And.intro (Or.inr ⟨_, _, _, rfl, rfl, Or.inr (Or.inr (by rw [e_5]; rfl))⟩) (jgs_rf _ _))) ?_
      refine jw_cR (st := []) (sa := [vR 24 r0, vR 6 r1]) okX30_check rfl rfl rfl rfl rfl rfl (jstp_up (sa := [vR 6 r1]) (st := []) rfl (lw_g (jtb_mem (c := 10) (i := 44) rfl) rfl) um22 okX30_check c_1 (fun _ _ => by rw [e_5]; exact ⟨rfl, rfl⟩) rfl rfl) (w.2.2.2.2.1 e_5) (fun v_4 h_2 _ _ _ w => ?_)
      refine jw_gen (ls' := [none, none]) (st' := [vR 52 v_4]) (trivial) (And.intro (Or.inl rfl) (trivial)) ?_
      exact w_X20_truth_9 w
    · refine jw_gen (ls' := _) (st' := [vR 6 r1, vR 25 r0]) (jgl_rf _ _) (And.intro (Or.inl rfl) (And.intro (Or.inr ⟨_, _, _, rfl, rfl, Or.inr (Or.inr (by rw [e_5]; rfl))⟩) (jgs_rf _ _))) ?_
      refine jw_cR (st := []) (sa := [vR 25 r0, vR 6 r1]) okX31_check rfl rfl rfl rfl rfl rfl (jstp_up (sa := [vR 6 r1]) (st := []) rfl (lw_g (jtb_mem (c := 10) (i := 44) rfl) rfl) um23 okX31_check c_1 (fun _ _ => by rw [e_5]; exact ⟨rfl, rfl⟩) rfl rfl) (w.2.2.2.2.2.1 e_5) (fun v_4 h_2 _ _ _ w => ?_)
      refine jw_gen (ls' := [none, none]) (st' := [vR 52 v_4]) (trivial) (And.intro (Or.inl rfl) (trivial)) ?_
      exact w_X20_truth_9 w
    · refine jw_gen (ls' := _) (st' := [vR 6 r1, vR 26 r0]) (jgl_rf _ _) (And.intro (Or.inl rfl) (And.intro (Or.inr ⟨_, _, _, rfl, rfl, Or.inr (Or.inr (by rw [e_5]; rfl))⟩) (jgs_rf _ _))) ?_
      refine jw_cR (st := []) (sa := [vR 26 r0, vR 6 r1]) okX32_check rfl rfl rfl rfl rfl rfl (jstp_up (sa := [vR 6 r1]) (st := []) rfl (lw_g (jtb_mem (c := 10) (i := 44) rfl) rfl) um24 okX32_check c_1 (fun _ _ => by rw [e_5]; exact ⟨rfl, rfl⟩) rfl rfl) (w.2.2.2.2.2.2.1 e_5) (fun v_4 h_2 _ _ _ w => ?_)
      refine jw_gen (ls' := [none, none]) (st' := [vR 52 v_4]) (trivial) (And.intro (Or.inl rfl) (trivial)) ?_
      exact w_X20_truth_9 w
    · refine jw_gen (ls' := _) (st' := [vR 6 r1, vR 27 r0]) (jgl_rf _ _) (And.intro (Or.inl rfl) (And.intro (Or.inr ⟨_, _, _, rfl, rfl, Or.inr (Or.inr (by rw [e_5]; rfl))⟩) (jgs_rf _ _))) ?_
      refine jw_cR (st := []) (sa := [vR 27 r0, vR 6 r1]) okX33_check rfl rfl rfl rfl rfl rfl (jstp_up (sa := [vR 6 r1]) (st := []) rfl (lw_g (jtb_mem (c := 10) (i := 44) rfl) rfl) um25 okX33_check c_1 (fun _ _ => by rw [e_5]; exact ⟨rfl, rfl⟩) rfl rfl) (w.2.2.2.2.2.2.2.1 e_5) (fun v_4 h_2 _ _ _ w => ?_)
      refine jw_gen (ls' := [none, none]) (st' := [vR 52 v_4]) (trivial) (And.intro (Or.inl rfl) (trivial)) ?_
      exact w_X20_truth_9 w
    · refine jw_gen (ls' := _) (st' := [vR 6 r1, vR 28 r0]) (jgl_rf _ _) (And.intro (Or.inl rfl) (And.intro (Or.inr ⟨_, _, _, rfl, rfl, Or.inr (Or.inr (by rw [e_5]; rfl))⟩) (jgs_rf _ _))) ?_
      refine jw_cR (st := []) (sa := [vR 28 r0, vR 6 r1]) okX34_check rfl rfl rfl rfl rfl rfl (jstp_up (sa := [vR 6 r1]) (st := []) rfl (lw_g (jtb_mem (c := 10) (i := 44) rfl) rfl) um26 okX34_check c_1 (fun _ _ => by rw [e_5]; exact ⟨rfl, rfl⟩) rfl rfl) (w.2.2.2.2.2.2.2.2.1 e_5) (fun v_4 h_2 _ _ _ w => ?_)
      refine jw_gen (ls' := [none, none]) (st' := [vR 52 v_4]) (trivial) (And.intro (Or.inl rfl) (trivial)) ?_
      exact w_X20_truth_9 w
    · refine jw_gen (ls' := _) (st' := [vR 6 r1, vR 29 r0]) (jgl_rf _ _) (And.intro (Or.inl rfl) (And.intro (Or.inr ⟨_, _, _, rfl, rfl, Or.inr (Or.inr (by rw [e_5]; rfl))⟩) (jgs_rf _ _))) ?_
      refine jw_cR (st := []) (sa := [vR 29 r0, vR 6 r1]) okX35_check rfl rfl rfl rfl rfl rfl (jstp_up (sa := [vR 6 r1]) (st := []) rfl (lw_g (jtb_mem (c := 10) (i := 44) rfl) rfl) um27 okX35_check c_1 (fun _ _ => by rw [e_5]; exact ⟨rfl, rfl⟩) rfl rfl) (w.2.2.2.2.2.2.2.2.2 e_5) (fun v_4 h_2 _ _ _ w => ?_)
      refine jw_gen (ls' := [none, none]) (st' := [vR 52 v_4]) (trivial) (And.intro (Or.inl rfl) (trivial)) ?_
      exact w_X20_truth_9 w
def T_X20_truth (D : JD) (d : Nat) (Q : JO → JH → Prop) (r0 : Nat) (r1 : Nat) (h : JH) : Prop := W_X20_truth_0 D d Q r0 r1 h
theorem t_X20_truth {D : JD} {d : Nat} {Q : JO → JH → Prop} {r0 : Nat} {r1 : Nat} {h : JH} (w : T_X20_truth D d Q r0 r1 h) : cX20_truth D (d + 1) r0 r1 h Q := by
  unfold T_X20_truth at w
  unfold cX20_truth
  exact w_X20_truth_0 w
def W_X20_selects_0 (D : JD) (d : Nat) (Q : JO → JH → Prop) (h : JH) : Prop :=
  Q (.inl (some (vI (0 : Int32)))) h
theorem w_X20_selects_0 {D : JD} {d : Nat} {Q : JO → JH → Prop} {h : JH} (w : W_X20_selects_0 D d Q h) : JW D (d + 1) mX20_selects 0 [none] [] h Q := by
  unfold W_X20_selects_0 at w
  refine jw_iconst (pc' := 1) (x := (0 : Int32)) rfl rfl ?_
  exact jw_ireturn rfl rfl (rfl) w
def T_X20_selects (D : JD) (d : Nat) (Q : JO → JH → Prop) (r0 : Nat) (h : JH) : Prop := W_X20_selects_0 D d Q h
theorem t_X20_selects {D : JD} {d : Nat} {Q : JO → JH → Prop} {r0 : Nat} {h : JH} (w : T_X20_selects D d Q r0 h) : cX20_selects D (d + 1) r0 h Q := by
  unfold T_X20_selects at w
  unfold cX20_selects
  refine jw_gen (ls' := [none]) (st' := []) (trivial) (trivial) ?_
  exact w_X20_selects_0 w
def W_X21_init_0 (D : JD) (d : Nat) (Q : JO → JH → Prop) (r0 : Nat) (r1 : Nat) (r2 : Nat) (x3 : Int32) (h : JH) : Prop :=
  r0 ≠ 0 ∧ (cX20_init D d r0 h (pV D h (fun h_2 => ∀ h_5 : JH, h_5 = wfr h_2 96 r0 r1 → (∀ h_7 : JH, h_7 = wfr h_5 97 r0 r2 → (∀ h_9 : JH, h_9 = wfi h_7 98 r0 x3 → (Q (.inl none) h_9)))) (jth Q)))
theorem w_X21_init_0 {D : JD} {d : Nat} {Q : JO → JH → Prop} {r0 : Nat} {r1 : Nat} {r2 : Nat} {x3 : Int32} {h : JH} (w : W_X21_init_0 D d Q r0 r1 r2 x3 h) : JW D (d + 1) mX21_init 0 [some (vR 17 r0), some (vR 64 r1), some (vR 82 r2), some (vI x3)] [] h Q := by
  unfold W_X21_init_0 at w
  refine jw_aload_n (pc' := 1) rfl rfl ?_
  obtain ⟨g_1, w⟩ := w
  refine jw_cV (st := []) (sa := [vR 17 r0]) okX20_init rfl rfl rfl rfl rfl rfl (jstp_init (sa := []) (st := []) rfl rfl sX20_init okX20_init (lw_g (jtb_mem (c := 6) (i := 188) rfl) rfl) g_1 rfl rfl) w (fun h_2 _ _ w => ?_)
  refine jw_aload_n (pc' := 5) rfl rfl ?_
  refine jw_aload_n (pc' := 6) rfl rfl ?_
  refine jw_putR' (pc' := 9) (F := 96) rfl rfl rfl (Or.inr rfl) (Or.inr ⟨rfl, rfl⟩) rfl rfl rfl g_1 (fun h_5 e_6 => ?_)
  replace w := w h_5 e_6
  refine jw_aload_n (pc' := 10) rfl rfl ?_
  refine jw_aload_n (pc' := 11) rfl rfl ?_
  refine jw_putR' (pc' := 14) (F := 97) rfl rfl rfl (Or.inr rfl) (Or.inr ⟨rfl, rfl⟩) rfl rfl rfl g_1 (fun h_7 e_8 => ?_)
  replace w := w h_7 e_8
  refine jw_aload_n (pc' := 15) rfl rfl ?_
  refine jw_iload_n (pc' := 16) rfl rfl ?_
  refine jw_putI' (pc' := 19) (F := 98) rfl rfl rfl (Or.inr rfl) (Or.inr ⟨rfl, rfl⟩) rfl (rfl) (rfl) rfl g_1 (fun h_9 e_10 => ?_)
  replace w := w h_9 e_10
  exact jw_return rfl rfl w
def T_X21_init (D : JD) (d : Nat) (Q : JO → JH → Prop) (r0 : Nat) (r1 : Nat) (r2 : Nat) (x3 : Int32) (h : JH) : Prop := W_X21_init_0 D d Q r0 r1 r2 x3 h
theorem t_X21_init {D : JD} {d : Nat} {Q : JO → JH → Prop} {r0 : Nat} {r1 : Nat} {r2 : Nat} {x3 : Int32} {h : JH} (w : T_X21_init D d Q r0 r1 r2 x3 h) : cX21_init D (d + 1) r0 r1 r2 x3 h Q := by
  unfold T_X21_init at w
  unfold cX21_init
  exact w_X21_init_0 w
def W_X21_check_32 (D : JD) (d : Nat) (Q : JO → JH → Prop) (K22 : Nat → Nat → Int32 → JH → Prop) (K32 : Nat → Nat → Int32 → Int32 → JH → Prop) (r0 : Nat) (r1 : Nat) (x2 : Int32) (x3 : Int32) (h : JH) : Prop :=
  (x2 ≤ x3 → K22 r0 r1 (x2 + (1 : Int32)) h) ∧ (¬ x2 ≤ x3 → r0 ≠ 0 ∧ ((jfr h 97 r0) ≠ 0 ∧ jin x2 (jln h (jfr h 97 r0)) ∧ ((jar h (jfr h 97 r0) (ixn x2)) ≠ 0 ∧ (jin x3 (jln h (jfr h 97 r0)) ∧ ((jar h (jfr h 97 r0) (ixn x3)) ≠ 0 ∧ ((jfr h 92 (jar h (jfr h 97 r0) (ixn x2))) ≠ 0 ∧ (cJ5_equals D d (jfr h 92 (jar h (jfr h 97 r0) (ixn x2))) (jfr h 92 (jar h (jfr h 97 r0) (ixn x3))) h (pI D h (fun v_11 h_9 => (v_11 = 0 → K32 r0 r1 x2 (x3 + (1 : Int32)) h_9) ∧ (¬ v_11 = 0 → cX1_fault D d (jcs D 154) h_9 (pR D h_9 9 (fun v_15 h_13 => v_15 ≠ 0 ∧ (Q (.inr v_15) h_13)) (jth Q)))) (jth Q)))))))))
theorem w_X21_check_32 {D : JD} {d : Nat} {Q : JO → JH → Prop} {K22 : Nat → Nat → Int32 → JH → Prop} {K32 : Nat → Nat → Int32 → Int32 → JH → Prop} {r0 : Nat} {r1 : Nat} {x2 : Int32} {x3 : Int32} {h : JH} (hK22 : ∀ (r0 : Nat) (r1 : Nat) (x2 : Int32) (h : JH), K22 r0 r1 x2 h → JW D (d + 1) mX21_check 22 [some (vR 17 r0), some (vR 3 r1), some (vI x2), none] [] h Q) (hK32 : ∀ (r0 : Nat) (r1 : Nat) (x2 : Int32) (x3 : Int32) (h : JH), K32 r0 r1 x2 x3 h → JW D (d + 1) mX21_check 32 [some (vR 17 r0), some (vR 3 r1), some (vI x2), some (vI x3)] [] h Q) (w : W_X21_check_32 D d Q K22 K32 r0 r1 x2 x3 h) : JW D (d + 1) mX21_check 32 [some (vR 17 r0), some (vR 3 r1), some (vI x2), some (vI x3)] [] h Q := by
  unfold W_X21_check_32 at w
  refine jw_iload_n (pc' := 33) rfl rfl ?_
  refine jw_iload_n (pc' := 34) rfl rfl ?_
  refine jw_icmp_ge (tgt := 73) (pc' := 37) rfl rfl (fun c_1 => ?_) (fun c_1 => ?_)
  · replace w := w.1 c_1
    refine jw_iinc (pc' := 76) (y := x2 + (1 : Int32)) (ls' := [some (vR 17 r0), some (vR 3 r1), some (vI (x2 + (1 : Int32))), some (vI x3)]) rfl (by decide) rfl rfl rfl ?_
    refine jw_goto (pc' := 22) rfl rfl ?_
    refine jw_gen (ls' := [some (vR 17 r0), some (vR 3 r1), some (vI (x2 + (1 : Int32))), none]) (st' := []) (And.intro (Or.inl rfl) (And.intro (Or.inl rfl) (And.intro (Or.inl rfl) (trivial)))) (trivial) ?_
    exact hK22 _ _ _ _ w
  · replace w := w.2 c_1
    refine jw_aload_n (pc' := 38) rfl rfl ?_
    obtain ⟨g_2, w⟩ := w
    refine jw_getR (pc' := 41) (F := 97) (t' := 82) rfl rfl rfl rfl rfl g_2 ?_
    refine jw_iload_n (pc' := 42) rfl rfl ?_
    obtain ⟨g_3, w⟩ := w
    obtain ⟨g_4, w⟩ := w
    refine jw_aald (pc' := 43) (t' := 16) rfl rfl rfl rfl g_3 g_4.ix g_4.2 ?_
    obtain ⟨g_5, w⟩ := w
    refine jw_getR (pc' := 46) (F := 92) (t' := 64) rfl rfl rfl rfl rfl g_5 ?_
    refine jw_aload_n (pc' := 47) rfl rfl ?_
    refine jw_getR (pc' := 50) (F := 97) (t' := 82) rfl rfl rfl rfl rfl g_2 ?_
    refine jw_iload_n (pc' := 51) rfl rfl ?_
    obtain ⟨g_6, w⟩ := w
    refine jw_aald (pc' := 52) (t' := 16) rfl rfl rfl rfl g_3 g_6.ix g_6.2 ?_
    obtain ⟨g_7, w⟩ := w
    refine jw_getR (pc' := 55) (F := 92) (t' := 64) rfl rfl rfl rfl rfl g_7 ?_
    obtain ⟨g_8, w⟩ := w
    refine jw_cI (st := []) (sa := [vR 64 (jfr h 92 (jar h (jfr h 97 r0) (ixn x2))), vR 64 (jfr h 92 (jar h (jfr h 97 r0) (ixn x3)))]) okJ5_equals rfl rfl rfl rfl rfl rfl (jstp_virtual (sa := [vR 64 (jfr h 92 (jar h (jfr h 97 r0) (ixn x3)))]) (st := []) (k := 0) rfl rfl sJ5_equals okJ5_equals g_8 (one64.k g_8) rfl rfl) w (fun v_11 h_9 _ _ w => ?_)
    refine jw_if_eq (tgt := 67) (pc' := 61) rfl rfl (fun c_12 => ?_) (fun c_12 => ?_)
    · replace w := w.1 c_12
      refine jw_iinc (pc' := 70) (y := x3 + (1 : Int32)) (ls' := [some (vR 17 r0), some (vR 3 r1), some (vI x2), some (vI (x3 + (1 : Int32)))]) rfl (by decide) rfl rfl rfl ?_
      refine jw_goto (pc' := 32) rfl rfl ?_
      exact hK32 _ _ _ _ _ w
    · replace w := w.2 c_12
      refine jw_ldcS (pc' := 63) rfl rfl rfl rfl ?_
      refine jw_cR (st := []) (sa := [vR 51 (jcs D 154)]) okX1_fault rfl rfl rfl rfl rfl rfl (jstp_static (sa := [vR 51 (jcs D 154)]) (st := []) rfl rfl sX1_fault okX1_fault rfl rfl) w (fun v_15 h_13 _ _ _ w => ?_)
      obtain ⟨g_16, w⟩ := w
      exact jw_athrow rfl rfl g_16 w
def L_X21_check_32 (D : JD) (d : Nat) (Q : JO → JH → Prop) (K22 : Nat → Nat → Int32 → JH → Prop) : Nat → Nat → Nat → Int32 → Int32 → JH → Prop
  | 0 => fun _ _ _ _ _ => False
  | n + 1 => fun r0 r1 x2 x3 h => W_X21_check_32 D d Q K22 (L_X21_check_32 D d Q K22 n) r0 r1 x2 x3 h
theorem l_X21_check_32 {D : JD} {d : Nat} {Q : JO → JH → Prop} {K22 : Nat → Nat → Int32 → JH → Prop} (hK22 : ∀ (r0 : Nat) (r1 : Nat) (x2 : Int32) (h : JH), K22 r0 r1 x2 h → JW D (d + 1) mX21_check 22 [some (vR 17 r0), some (vR 3 r1), some (vI x2), none] [] h Q) : ∀ (n : Nat) (r0 : Nat) (r1 : Nat) (x2 : Int32) (x3 : Int32) (h : JH), L_X21_check_32 D d Q K22 n r0 r1 x2 x3 h → JW D (d + 1) mX21_check 32 [some (vR 17 r0), some (vR 3 r1), some (vI x2), some (vI x3)] [] h Q := by
  intro n
  induction n with
  | zero => intro _ _ _ _ _ w; exact w.elim
  | succ n ih => intro _ _ _ _ h w; exact w_X21_check_32 hK22 ih w
def W_X21_check_22 (D : JD) (d : Nat) (Q : JO → JH → Prop) (K22 : Nat → Nat → Int32 → JH → Prop) (r0 : Nat) (r1 : Nat) (x2 : Int32) (h : JH) : Prop :=
  r0 ≠ 0 ∧ (((jfi h 98 r0) ≤ x2 → r1 ≠ 0 ∧ ((jfr h 20 r1) ≠ 0 ∧ ((¬ (jfi h 41 (jfr h 20 r1)) = (4 : Int32) → Q (.inl none) h) ∧ ((jfi h 41 (jfr h 20 r1)) = (4 : Int32) → cX1_fault D d (jcs D 155) h (pR D h 9 (fun v_8 h_6 => v_8 ≠ 0 ∧ (Q (.inr v_8) h_6)) (jth Q)))))) ∧ (¬ (jfi h 98 r0) ≤ x2 → ∃ n, L_X21_check_32 D d Q K22 n r0 r1 x2 (0 : Int32) h))
theorem w_X21_check_22 {D : JD} {d : Nat} {Q : JO → JH → Prop} {K22 : Nat → Nat → Int32 → JH → Prop} {r0 : Nat} {r1 : Nat} {x2 : Int32} {h : JH} (hK22 : ∀ (r0 : Nat) (r1 : Nat) (x2 : Int32) (h : JH), K22 r0 r1 x2 h → JW D (d + 1) mX21_check 22 [some (vR 17 r0), some (vR 3 r1), some (vI x2), none] [] h Q) (w : W_X21_check_22 D d Q K22 r0 r1 x2 h) : JW D (d + 1) mX21_check 22 [some (vR 17 r0), some (vR 3 r1), some (vI x2), none] [] h Q := by
  unfold W_X21_check_22 at w
  refine jw_iload_n (pc' := 23) rfl rfl ?_
  refine jw_aload_n (pc' := 24) rfl rfl ?_
  obtain ⟨g_1, w⟩ := w
  refine jw_getI (pc' := 27) (F := 98) rfl rfl rfl rfl g_1 ?_
  refine jw_icmp_ge (tgt := 79) (pc' := 30) rfl rfl (fun c_2 => ?_) (fun c_2 => ?_)
  · replace w := w.1 c_2
    refine jw_aload_n (pc' := 80) rfl rfl ?_
    obtain ⟨g_3, w⟩ := w
    refine jw_getR (pc' := 83) (F := 20) (t' := 114) rfl rfl rfl rfl rfl g_3 ?_
    obtain ⟨g_4, w⟩ := w
    refine jw_getI (pc' := 86) (F := 41) rfl rfl rfl rfl g_4 ?_
    refine jw_iconst (pc' := 87) (x := (4 : Int32)) rfl rfl ?_
    refine jw_icmp_ne (tgt := 96) (pc' := 90) rfl rfl (fun c_5 => ?_) (fun c_5 => ?_)
    · replace w := w.1 c_5
      exact jw_return rfl rfl w
    · replace w := w.2 c_5
      refine jw_ldcS (pc' := 92) rfl rfl rfl rfl ?_
      refine jw_cR (st := []) (sa := [vR 51 (jcs D 155)]) okX1_fault rfl rfl rfl rfl rfl rfl (jstp_static (sa := [vR 51 (jcs D 155)]) (st := []) rfl rfl sX1_fault okX1_fault rfl rfl) w (fun v_8 h_6 _ _ _ w => ?_)
      obtain ⟨g_9, w⟩ := w
      exact jw_athrow rfl rfl g_9 w
  · replace w := w.2 c_2
    refine jw_iconst (pc' := 31) (x := (0 : Int32)) rfl rfl ?_
    refine jw_istore_n (pc' := 32) (ls' := [some (vR 17 r0), some (vR 3 r1), some (vI x2), some (vI (0 : Int32))]) rfl (by decide) rfl ?_
    obtain ⟨n, w⟩ := w
    exact l_X21_check_32 hK22 n _ _ _ _ _ w
def L_X21_check_22 (D : JD) (d : Nat) (Q : JO → JH → Prop) : Nat → Nat → Nat → Int32 → JH → Prop
  | 0 => fun _ _ _ _ => False
  | n + 1 => fun r0 r1 x2 h => W_X21_check_22 D d Q (L_X21_check_22 D d Q n) r0 r1 x2 h
theorem l_X21_check_22 {D : JD} {d : Nat} {Q : JO → JH → Prop} : ∀ (n : Nat) (r0 : Nat) (r1 : Nat) (x2 : Int32) (h : JH), L_X21_check_22 D d Q n r0 r1 x2 h → JW D (d + 1) mX21_check 22 [some (vR 17 r0), some (vR 3 r1), some (vI x2), none] [] h Q := by
  intro n
  induction n with
  | zero => intro _ _ _ _ w; exact w.elim
  | succ n ih => intro _ _ _ h w; exact w_X21_check_22 ih w
def W_X21_check_0 (D : JD) (d : Nat) (Q : JO → JH → Prop) (r0 : Nat) (r1 : Nat) (h : JH) : Prop :=
  r1 ≠ 0 ∧ (r0 ≠ 0 ∧ ((jfr h 20 r1) ≠ 0 ∧ (cX4_find D d (jfr h 20 r1) (jfr h 96 r0) h (pR D h 5 (fun v_6 h_4 => (v_6 = 0 → ∃ n, L_X21_check_22 D d Q n r0 r1 (1 : Int32) h_4) ∧ (v_6 ≠ 0 → cX1_fault D d (jcs D 153) h_4 (pR D h_4 9 (fun v_10 h_8 => v_10 ≠ 0 ∧ (Q (.inr v_10) h_8)) (jth Q)))) (jth Q)))))
theorem w_X21_check_0 {D : JD} {d : Nat} {Q : JO → JH → Prop} {r0 : Nat} {r1 : Nat} {h : JH} (w : W_X21_check_0 D d Q r0 r1 h) : JW D (d + 1) mX21_check 0 [some (vR 17 r0), some (vR 3 r1), none, none] [] h Q := by
  unfold W_X21_check_0 at w
  refine jw_aload_n (pc' := 1) rfl rfl ?_
  obtain ⟨g_1, w⟩ := w
  refine jw_getR (pc' := 4) (F := 20) (t' := 114) rfl rfl rfl rfl rfl g_1 ?_
  refine jw_aload_n (pc' := 5) rfl rfl ?_
  obtain ⟨g_2, w⟩ := w
  refine jw_getR (pc' := 8) (F := 96) (t' := 64) rfl rfl rfl rfl rfl g_2 ?_
  obtain ⟨g_3, w⟩ := w
  refine jw_cR (st := []) (sa := [vR 114 (jfr h 20 r1), vR 64 (jfr h 96 r0)]) okX4_find rfl rfl rfl rfl rfl rfl (jstp_virtual (sa := [vR 64 (jfr h 96 r0)]) (st := []) (k := 0) rfl rfl sX4_find okX4_find g_3 (one114.k g_3) rfl rfl) w (fun v_6 h_4 _ _ _ w => ?_)
  refine jw_ifnull (tgt := 20) (pc' := 14) rfl rfl (fun c_7 => ?_) (fun c_7 => ?_)
  · replace w := w.1 c_7
    refine jw_iconst (pc' := 21) (x := (1 : Int32)) rfl rfl ?_
    refine jw_istore_n (pc' := 22) (ls' := [some (vR 17 r0), some (vR 3 r1), some (vI (1 : Int32)), none]) rfl (by decide) rfl ?_
    obtain ⟨n, w⟩ := w
    exact l_X21_check_22 n _ _ _ _ w
  · replace w := w.2 c_7
    refine jw_ldcS (pc' := 16) rfl rfl rfl rfl ?_
    refine jw_cR (st := []) (sa := [vR 51 (jcs D 153)]) okX1_fault rfl rfl rfl rfl rfl rfl (jstp_static (sa := [vR 51 (jcs D 153)]) (st := []) rfl rfl sX1_fault okX1_fault rfl rfl) w (fun v_10 h_8 _ _ _ w => ?_)
    obtain ⟨g_11, w⟩ := w
    exact jw_athrow rfl rfl g_11 w
def T_X21_check (D : JD) (d : Nat) (Q : JO → JH → Prop) (r0 : Nat) (r1 : Nat) (h : JH) : Prop := W_X21_check_0 D d Q r0 r1 h
theorem t_X21_check {D : JD} {d : Nat} {Q : JO → JH → Prop} {r0 : Nat} {r1 : Nat} {h : JH} (w : T_X21_check D d Q r0 r1 h) : cX21_check D (d + 1) r0 r1 h Q := by
  unfold T_X21_check at w
  unfold cX21_check
  exact w_X21_check_0 w
def W_X21_work_0 (D : JD) (d : Nat) (Q : JO → JH → Prop) (r0 : Nat) (r1 : Nat) (h : JH) : Prop :=
  r1 ≠ 0 ∧ ((jfr h 20 r1) ≠ 0 ∧ ((jfr h 40 (jfr h 20 r1)) ≠ 0 ∧ jin (jfi h 41 (jfr h 20 r1)) (jln h (jfr h 40 (jfr h 20 r1))) ∧ (r0 ≠ 0 ∧ ((jar h (jfr h 40 (jfr h 20 r1)) (ixn (jfi h 41 (jfr h 20 r1)))) ≠ 0 ∧ (cX5_define D d (jar h (jfr h 40 (jfr h 20 r1)) (ixn (jfi h 41 (jfr h 20 r1)))) (jfr h 96 r0) (jfr h 97 r0) (jfi h 98 r0) h (pV D h (fun h_7 => (jfr h_7 20 r1) ≠ 0 ∧ (∀ h_11 : JH, h_11 = wfi h_7 41 (jfr h_7 20 r1) ((jfi h_7 41 (jfr h_7 20 r1)) + (1 : Int32)) → (Q (.inl (some (vR 64 (jcs D 190)))) h_11))) (jth Q)))))))
theorem w_X21_work_0 {D : JD} {d : Nat} {Q : JO → JH → Prop} {r0 : Nat} {r1 : Nat} {h : JH} (w : W_X21_work_0 D d Q r0 r1 h) : JW D (d + 1) mX21_work 0 [some (vR 17 r0), some (vR 3 r1)] [] h Q := by
  unfold W_X21_work_0 at w
  refine jw_aload_n (pc' := 1) rfl rfl ?_
  obtain ⟨g_1, w⟩ := w
  refine jw_getR (pc' := 4) (F := 20) (t' := 114) rfl rfl rfl rfl rfl g_1 ?_
  obtain ⟨g_2, w⟩ := w
  refine jw_getR (pc' := 7) (F := 40) (t' := 139) rfl rfl rfl rfl rfl g_2 ?_
  refine jw_aload_n (pc' := 8) rfl rfl ?_
  refine jw_getR (pc' := 11) (F := 20) (t' := 114) rfl rfl rfl rfl rfl g_1 ?_
  refine jw_getI (pc' := 14) (F := 41) rfl rfl rfl rfl g_2 ?_
  obtain ⟨g_3, w⟩ := w
  obtain ⟨g_4, w⟩ := w
  refine jw_aald (pc' := 15) (t' := 5) rfl rfl rfl rfl g_3 g_4.ix g_4.2 ?_
  refine jw_aload_n (pc' := 16) rfl rfl ?_
  obtain ⟨g_5, w⟩ := w
  refine jw_getR (pc' := 19) (F := 96) (t' := 64) rfl rfl rfl rfl rfl g_5 ?_
  refine jw_aload_n (pc' := 20) rfl rfl ?_
  refine jw_getR (pc' := 23) (F := 97) (t' := 82) rfl rfl rfl rfl rfl g_5 ?_
  refine jw_aload_n (pc' := 24) rfl rfl ?_
  refine jw_getI (pc' := 27) (F := 98) rfl rfl rfl rfl g_5 ?_
  obtain ⟨g_6, w⟩ := w
  refine jw_cV (st := []) (sa := [vR 5 (jar h (jfr h 40 (jfr h 20 r1)) (ixn (jfi h 41 (jfr h 20 r1)))), vR 64 (jfr h 96 r0), vR 82 (jfr h 97 r0), vI (jfi h 98 r0)]) okX5_define rfl rfl rfl rfl rfl rfl (jstp_virtual (sa := [vR 64 (jfr h 96 r0), vR 82 (jfr h 97 r0), vI (jfi h 98 r0)]) (st := []) (k := 0) rfl rfl sX5_define okX5_define g_6 (one5.k g_6) rfl rfl) w (fun h_7 _ _ w => ?_)
  refine jw_aload_n (pc' := 31) rfl rfl ?_
  refine jw_getR (pc' := 34) (F := 20) (t' := 114) rfl rfl rfl rfl rfl g_1 ?_
  refine jw_dup (pc' := 35) rfl rfl ?_
  obtain ⟨g_10, w⟩ := w
  refine jw_getI (pc' := 38) (F := 41) rfl rfl rfl rfl g_10 ?_
  refine jw_iconst (pc' := 39) (x := (1 : Int32)) rfl rfl ?_
  refine jw_iadd (pc' := 40) rfl ?_
  refine jw_putI' (pc' := 43) (F := 41) rfl rfl rfl (Or.inr rfl) (Or.inl rfl) rfl (rfl) (rfl) rfl g_10 (fun h_11 e_12 => ?_)
  replace w := w h_11 e_12
  refine jw_ldcS (pc' := 45) rfl rfl rfl rfl ?_
  exact jw_areturn rfl rfl rfl rfl rfl w
def T_X21_work (D : JD) (d : Nat) (Q : JO → JH → Prop) (r0 : Nat) (r1 : Nat) (h : JH) : Prop := W_X21_work_0 D d Q r0 r1 h
theorem t_X21_work {D : JD} {d : Nat} {Q : JO → JH → Prop} {r0 : Nat} {r1 : Nat} {h : JH} (w : T_X21_work D d Q r0 r1 h) : cX21_work D (d + 1) r0 r1 h Q := by
  unfold T_X21_work at w
  unfold cX21_work
  exact w_X21_work_0 w
def W_X22_init_0 (D : JD) (d : Nat) (Q : JO → JH → Prop) (r0 : Nat) (r1 : Nat) (h : JH) : Prop :=
  r0 ≠ 0 ∧ (cX20_init D d r0 h (pV D h (fun h_2 => ∀ h_5 : JH, h_5 = wfr h_2 99 r0 r1 → (Q (.inl none) h_5)) (jth Q)))
theorem w_X22_init_0 {D : JD} {d : Nat} {Q : JO → JH → Prop} {r0 : Nat} {r1 : Nat} {h : JH} (w : W_X22_init_0 D d Q r0 r1 h) : JW D (d + 1) mX22_init 0 [some (vR 18 r0), some (vR 64 r1)] [] h Q := by
  unfold W_X22_init_0 at w
  refine jw_aload_n (pc' := 1) rfl rfl ?_
  obtain ⟨g_1, w⟩ := w
  refine jw_cV (st := []) (sa := [vR 18 r0]) okX20_init rfl rfl rfl rfl rfl rfl (jstp_init (sa := []) (st := []) rfl rfl sX20_init okX20_init (lw_g (jtb_mem (c := 6) (i := 188) rfl) rfl) g_1 rfl rfl) w (fun h_2 _ _ w => ?_)
  refine jw_aload_n (pc' := 5) rfl rfl ?_
  refine jw_aload_n (pc' := 6) rfl rfl ?_
  refine jw_putR' (pc' := 9) (F := 99) rfl rfl rfl (Or.inr rfl) (Or.inr ⟨rfl, rfl⟩) rfl rfl rfl g_1 (fun h_5 e_6 => ?_)
  replace w := w h_5 e_6
  exact jw_return rfl rfl w
def T_X22_init (D : JD) (d : Nat) (Q : JO → JH → Prop) (r0 : Nat) (r1 : Nat) (h : JH) : Prop := W_X22_init_0 D d Q r0 r1 h
theorem t_X22_init {D : JD} {d : Nat} {Q : JO → JH → Prop} {r0 : Nat} {r1 : Nat} {h : JH} (w : T_X22_init D d Q r0 r1 h) : cX22_init D (d + 1) r0 r1 h Q := by
  unfold T_X22_init at w
  unfold cX22_init
  exact w_X22_init_0 w
def W_X22_check_0 (D : JD) (d : Nat) (Q : JO → JH → Prop) (r0 : Nat) (r1 : Nat) (h : JH) : Prop :=
  r1 ≠ 0 ∧ (r0 ≠ 0 ∧ ((jfr h 20 r1) ≠ 0 ∧ (cX4_needed D d (jfr h 20 r1) (jfr h 99 r0) h (pR D h 5 (fun v_6 h_4 => Q (.inl none) h_4) (jth Q)))))
theorem w_X22_check_0 {D : JD} {d : Nat} {Q : JO → JH → Prop} {r0 : Nat} {r1 : Nat} {h : JH} (w : W_X22_check_0 D d Q r0 r1 h) : JW D (d + 1) mX22_check 0 [some (vR 18 r0), some (vR 3 r1)] [] h Q := by
  unfold W_X22_check_0 at w
  refine jw_aload_n (pc' := 1) rfl rfl ?_
  obtain ⟨g_1, w⟩ := w
  refine jw_getR (pc' := 4) (F := 20) (t' := 114) rfl rfl rfl rfl rfl g_1 ?_
  refine jw_aload_n (pc' := 5) rfl rfl ?_
  obtain ⟨g_2, w⟩ := w
  refine jw_getR (pc' := 8) (F := 99) (t' := 64) rfl rfl rfl rfl rfl g_2 ?_
  obtain ⟨g_3, w⟩ := w
  refine jw_cR (st := []) (sa := [vR 114 (jfr h 20 r1), vR 64 (jfr h 99 r0)]) okX4_needed rfl rfl rfl rfl rfl rfl (jstp_virtual (sa := [vR 64 (jfr h 99 r0)]) (st := []) (k := 0) rfl rfl sX4_needed okX4_needed g_3 (one114.k g_3) rfl rfl) w (fun v_6 h_4 _ _ _ w => ?_)
  refine jw_pop (pc' := 12) rfl rfl ?_
  exact jw_return rfl rfl w
def T_X22_check (D : JD) (d : Nat) (Q : JO → JH → Prop) (r0 : Nat) (r1 : Nat) (h : JH) : Prop := W_X22_check_0 D d Q r0 r1 h
theorem t_X22_check {D : JD} {d : Nat} {Q : JO → JH → Prop} {r0 : Nat} {r1 : Nat} {h : JH} (w : T_X22_check D d Q r0 r1 h) : cX22_check D (d + 1) r0 r1 h Q := by
  unfold T_X22_check at w
  unfold cX22_check
  exact w_X22_check_0 w
def W_X22_work_0 (D : JD) (d : Nat) (Q : JO → JH → Prop) (r0 : Nat) (r1 : Nat) (h : JH) : Prop :=
  r1 ≠ 0 ∧ (r0 ≠ 0 ∧ ((jfr h 20 r1) ≠ 0 ∧ (cX4_needed D d (jfr h 20 r1) (jfr h 99 r0) h (pR D h 5 (fun v_6 h_4 => cX4_drop D d (jfr h 20 r1) v_6 h_4 (pV D h_4 (fun h_7 => Q (.inl (some (vR 64 (jcs D 196)))) h_7) (jth Q))) (jth Q)))))
theorem w_X22_work_0 {D : JD} {d : Nat} {Q : JO → JH → Prop} {r0 : Nat} {r1 : Nat} {h : JH} (w : W_X22_work_0 D d Q r0 r1 h) : JW D (d + 1) mX22_work 0 [some (vR 18 r0), some (vR 3 r1)] [] h Q := by
  unfold W_X22_work_0 at w
  refine jw_aload_n (pc' := 1) rfl rfl ?_
  obtain ⟨g_1, w⟩ := w
  refine jw_getR (pc' := 4) (F := 20) (t' := 114) rfl rfl rfl rfl rfl g_1 ?_
  refine jw_aload_n (pc' := 5) rfl rfl ?_
  refine jw_getR (pc' := 8) (F := 20) (t' := 114) rfl rfl rfl rfl rfl g_1 ?_
  refine jw_aload_n (pc' := 9) rfl rfl ?_
  obtain ⟨g_2, w⟩ := w
  refine jw_getR (pc' := 12) (F := 99) (t' := 64) rfl rfl rfl rfl rfl g_2 ?_
  obtain ⟨g_3, w⟩ := w
  refine jw_cR (st := [vR 114 (jfr h 20 r1)]) (sa := [vR 114 (jfr h 20 r1), vR 64 (jfr h 99 r0)]) okX4_needed rfl rfl rfl rfl rfl rfl (jstp_virtual (sa := [vR 64 (jfr h 99 r0)]) (st := [vR 114 (jfr h 20 r1)]) (k := 0) rfl rfl sX4_needed okX4_needed g_3 (one114.k g_3) rfl rfl) w (fun v_6 h_4 _ _ _ w => ?_)
  refine jw_cV (st := []) (sa := [vR 114 (jfr h 20 r1), vR 5 v_6]) okX4_drop rfl rfl rfl rfl rfl rfl (jstp_virtual (sa := [vR 5 v_6]) (st := []) (k := 0) rfl rfl sX4_drop okX4_drop g_3 (one114.k g_3) rfl rfl) w (fun h_7 _ _ w => ?_)
  refine jw_ldcS (pc' := 20) rfl rfl rfl rfl ?_
  exact jw_areturn rfl rfl rfl rfl rfl w
def T_X22_work (D : JD) (d : Nat) (Q : JO → JH → Prop) (r0 : Nat) (r1 : Nat) (h : JH) : Prop := W_X22_work_0 D d Q r0 r1 h
theorem t_X22_work {D : JD} {d : Nat} {Q : JO → JH → Prop} {r0 : Nat} {r1 : Nat} {h : JH} (w : T_X22_work D d Q r0 r1 h) : cX22_work D (d + 1) r0 r1 h Q := by
  unfold T_X22_work at w
  unfold cX22_work
  exact w_X22_work_0 w
def W_X23_init_0 (D : JD) (d : Nat) (Q : JO → JH → Prop) (r0 : Nat) (r1 : Nat) (h : JH) : Prop :=
  r0 ≠ 0 ∧ (cX20_init D d r0 h (pV D h (fun h_2 => ∀ (r_5 : Nat) (h_6 : JH), r_5 = jsz h_2 + 1 → h_6 = nwa h_2 145 10 → (∀ h_9 : JH, h_9 = wfr h_6 101 r0 r_5 → (∀ (r_11 : Nat) (h_12 : JH), r_11 = jsz h_9 + 1 → h_12 = nwa h_9 146 20 → (∀ h_15 : JH, h_15 = wfr h_12 103 r0 r_11 → (∀ (r_17 : Nat) (h_18 : JH), r_17 = jsz h_15 + 1 → h_18 = nwa h_15 147 20 → (∀ h_21 : JH, h_21 = wfr h_18 104 r0 r_17 → (∀ (r_23 : Nat) (h_24 : JH), r_23 = jsz h_21 + 1 → h_24 = nwa h_21 148 10 → (∀ h_27 : JH, h_27 = wfr h_24 106 r0 r_23 → (∀ h_29 : JH, h_29 = wfr h_27 100 r0 r1 → (Q (.inl none) h_29)))))))))) (jth Q)))
theorem w_X23_init_0 {D : JD} {d : Nat} {Q : JO → JH → Prop} {r0 : Nat} {r1 : Nat} {h : JH} (w : W_X23_init_0 D d Q r0 r1 h) : JW D (d + 1) mX23_init 0 [some (vR 19 r0), some (vR 64 r1)] [] h Q := by
  unfold W_X23_init_0 at w
  refine jw_aload_n (pc' := 1) rfl rfl ?_
  obtain ⟨g_1, w⟩ := w
  refine jw_cV (st := []) (sa := [vR 19 r0]) okX20_init rfl rfl rfl rfl rfl rfl (jstp_init (sa := []) (st := []) rfl rfl sX20_init okX20_init (lw_g (jtb_mem (c := 6) (i := 188) rfl) rfl) g_1 rfl rfl) w (fun h_2 _ _ w => ?_)
  refine jw_aload_n (pc' := 5) rfl rfl ?_
  refine jw_bipush (pc' := 7) (x := (10 : Int32)) rfl rfl ?_
  refine jw_anew' (pc' := 10) (n := 10) (k := 145) rfl rfl rfl rfl rfl rfl rfl (jtb_mem (c := 6) (i := 222) rfl) ⟨by decide, rfl⟩ rfl (fun r_5 h_6 e_7 e_8 => ?_)
  replace w := w r_5 h_6 e_7 e_8
  refine jw_putR' (pc' := 13) (F := 101) rfl rfl rfl (Or.inr rfl) (Or.inr ⟨rfl, rfl⟩) rfl rfl rfl g_1 (fun h_9 e_10 => ?_)
  replace w := w h_9 e_10
  refine jw_aload_n (pc' := 14) rfl rfl ?_
  refine jw_bipush (pc' := 16) (x := (20 : Int32)) rfl rfl ?_
  refine jw_anewA' (pc' := 19) (n := 20) (k := 146) rfl rfl rfl rfl rfl rfl rfl (jtb_mem (c := 6) (i := 224) rfl) ⟨by decide, rfl⟩ rfl (fun r_11 h_12 e_13 e_14 => ?_)
  replace w := w r_11 h_12 e_13 e_14
  refine jw_putR' (pc' := 22) (F := 103) rfl rfl rfl (Or.inr rfl) (Or.inr ⟨rfl, rfl⟩) rfl rfl rfl g_1 (fun h_15 e_16 => ?_)
  replace w := w h_15 e_16
  refine jw_aload_n (pc' := 23) rfl rfl ?_
  refine jw_bipush (pc' := 25) (x := (20 : Int32)) rfl rfl ?_
  refine jw_newa' (pc' := 27) (n := 20) (k := 147) rfl rfl rfl rfl rfl rfl (lw_g (jtb_mem (c := 2) (i := 11) rfl) rfl) ⟨by decide, rfl⟩ (by decide) (fun r_17 h_18 e_19 e_20 => ?_)
  replace w := w r_17 h_18 e_19 e_20
  refine jw_putR' (pc' := 30) (F := 104) rfl rfl rfl (Or.inr rfl) (Or.inr ⟨rfl, rfl⟩) rfl rfl rfl g_1 (fun h_21 e_22 => ?_)
  replace w := w h_21 e_22
  refine jw_aload_n (pc' := 31) rfl rfl ?_
  refine jw_bipush (pc' := 33) (x := (10 : Int32)) rfl rfl ?_
  refine jw_newa' (pc' := 35) (n := 10) (k := 148) rfl rfl rfl rfl rfl rfl (lw_g (jtb_mem (c := 2) (i := 11) rfl) rfl) ⟨by decide, rfl⟩ (by decide) (fun r_23 h_24 e_25 e_26 => ?_)
  replace w := w r_23 h_24 e_25 e_26
  refine jw_putR' (pc' := 38) (F := 106) rfl rfl rfl (Or.inr rfl) (Or.inr ⟨rfl, rfl⟩) rfl rfl rfl g_1 (fun h_27 e_28 => ?_)
  replace w := w h_27 e_28
  refine jw_aload_n (pc' := 39) rfl rfl ?_
  refine jw_aload_n (pc' := 40) rfl rfl ?_
  refine jw_putR' (pc' := 43) (F := 100) rfl rfl rfl (Or.inr rfl) (Or.inr ⟨rfl, rfl⟩) rfl rfl rfl g_1 (fun h_29 e_30 => ?_)
  replace w := w h_29 e_30
  exact jw_return rfl rfl w
def T_X23_init (D : JD) (d : Nat) (Q : JO → JH → Prop) (r0 : Nat) (r1 : Nat) (h : JH) : Prop := W_X23_init_0 D d Q r0 r1 h
theorem t_X23_init {D : JD} {d : Nat} {Q : JO → JH → Prop} {r0 : Nat} {r1 : Nat} {h : JH} (w : T_X23_init D d Q r0 r1 h) : cX23_init D (d + 1) r0 r1 h Q := by
  unfold T_X23_init at w
  unfold cX23_init
  exact w_X23_init_0 w
def W_X23_named_14 (D : JD) (d : Nat) (Q : JO → JH → Prop) (s0 : Int32) (h : JH) : Prop :=
  jbo s0 ∧ (Q (.inl (some (vI s0))) h)
theorem w_X23_named_14 {D : JD} {d : Nat} {Q : JO → JH → Prop} {s0 : Int32} {h : JH} (w : W_X23_named_14 D d Q s0 h) : JW D (d + 1) mX23_named 14 [none] [vI s0] h Q := by
  unfold W_X23_named_14 at w
  obtain ⟨g_1, w⟩ := w
  exact jw_ireturn rfl rfl (g_1.nr) w
def W_X23_named_0 (D : JD) (d : Nat) (Q : JO → JH → Prop) (r0 : Nat) (h : JH) : Prop :=
  r0 ≠ 0 ∧ ((¬ (jfi h 102 r0) = (10 : Int32) → W_X23_named_14 D d Q (0 : Int32) h) ∧ ((jfi h 102 r0) = (10 : Int32) → W_X23_named_14 D d Q (1 : Int32) h))
theorem w_X23_named_0 {D : JD} {d : Nat} {Q : JO → JH → Prop} {r0 : Nat} {h : JH} (w : W_X23_named_0 D d Q r0 h) : JW D (d + 1) mX23_named 0 [some (vR 19 r0)] [] h Q := by
  unfold W_X23_named_0 at w
  refine jw_aload_n (pc' := 1) rfl rfl ?_
  obtain ⟨g_1, w⟩ := w
  refine jw_getI (pc' := 4) (F := 102) rfl rfl rfl rfl g_1 ?_
  refine jw_bipush (pc' := 6) (x := (10 : Int32)) rfl rfl ?_
  refine jw_icmp_ne (tgt := 13) (pc' := 9) rfl rfl (fun c_2 => ?_) (fun c_2 => ?_)
  · replace w := w.1 c_2
    refine jw_iconst (pc' := 14) (x := (0 : Int32)) rfl rfl ?_
    refine jw_gen (ls' := [none]) (st' := [vI (0 : Int32)]) (trivial) (And.intro (Or.inl rfl) (trivial)) ?_
    exact w_X23_named_14 w
  · replace w := w.2 c_2
    refine jw_iconst (pc' := 10) (x := (1 : Int32)) rfl rfl ?_
    refine jw_goto (pc' := 14) rfl rfl ?_
    refine jw_gen (ls' := [none]) (st' := [vI (1 : Int32)]) (trivial) (And.intro (Or.inl rfl) (trivial)) ?_
    exact w_X23_named_14 w
def T_X23_named (D : JD) (d : Nat) (Q : JO → JH → Prop) (r0 : Nat) (h : JH) : Prop := W_X23_named_0 D d Q r0 h
theorem t_X23_named {D : JD} {d : Nat} {Q : JO → JH → Prop} {r0 : Nat} {h : JH} (w : T_X23_named D d Q r0 h) : cX23_named D (d + 1) r0 h Q := by
  unfold T_X23_named at w
  unfold cX23_named
  exact w_X23_named_0 w
def W_X23_name_0 (D : JD) (d : Nat) (Q : JO → JH → Prop) (r0 : Nat) (r1 : Nat) (h : JH) : Prop :=
  r0 ≠ 0 ∧ ((jfr h 101 r0) ≠ 0 ∧ jin (jfi h 102 r0) (jln h (jfr h 101 r0)) ∧ ∀ h_4 : JH, h_4 = war h (jfr h 101 r0) (ixn (jfi h 102 r0)) r1 → (∀ h_6 : JH, h_6 = wfi h_4 102 r0 ((jfi h_4 102 r0) + (1 : Int32)) → (Q (.inl none) h_6)))
theorem w_X23_name_0 {D : JD} {d : Nat} {Q : JO → JH → Prop} {r0 : Nat} {r1 : Nat} {h : JH} (w : W_X23_name_0 D d Q r0 r1 h) : JW D (d + 1) mX23_name 0 [some (vR 19 r0), some (vR 64 r1)] [] h Q := by
  unfold W_X23_name_0 at w
  refine jw_aload_n (pc' := 1) rfl rfl ?_
  obtain ⟨g_1, w⟩ := w
  refine jw_getR (pc' := 4) (F := 101) (t' := 145) rfl rfl rfl rfl rfl g_1 ?_
  refine jw_aload_n (pc' := 5) rfl rfl ?_
  refine jw_getI (pc' := 8) (F := 102) rfl rfl rfl rfl g_1 ?_
  refine jw_aload_n (pc' := 9) rfl rfl ?_
  obtain ⟨g_2, w⟩ := w
  obtain ⟨g_3, w⟩ := w
  refine jw_aast' (pc' := 10) rfl rfl rfl rfl rfl rfl g_2 g_3 (fun h_4 e_5 => ?_)
  replace w := w h_4 e_5
  refine jw_aload_n (pc' := 11) rfl rfl ?_
  refine jw_dup (pc' := 12) rfl rfl ?_
  refine jw_getI (pc' := 15) (F := 102) rfl rfl rfl rfl g_1 ?_
  refine jw_iconst (pc' := 16) (x := (1 : Int32)) rfl rfl ?_
  refine jw_iadd (pc' := 17) rfl ?_
  refine jw_putI' (pc' := 20) (F := 102) rfl rfl rfl (Or.inr rfl) (Or.inl rfl) rfl (rfl) (rfl) rfl g_1 (fun h_6 e_7 => ?_)
  replace w := w h_6 e_7
  exact jw_return rfl rfl w
def T_X23_name (D : JD) (d : Nat) (Q : JO → JH → Prop) (r0 : Nat) (r1 : Nat) (h : JH) : Prop := W_X23_name_0 D d Q r0 r1 h
theorem t_X23_name {D : JD} {d : Nat} {Q : JO → JH → Prop} {r0 : Nat} {r1 : Nat} {h : JH} (w : T_X23_name D d Q r0 r1 h) : cX23_name D (d + 1) r0 r1 h Q := by
  unfold T_X23_name at w
  unfold cX23_name
  exact w_X23_name_0 w
def W_X23_high_14 (D : JD) (d : Nat) (Q : JO → JH → Prop) (s0 : Int32) (h : JH) : Prop :=
  jbo s0 ∧ (Q (.inl (some (vI s0))) h)
theorem w_X23_high_14 {D : JD} {d : Nat} {Q : JO → JH → Prop} {s0 : Int32} {h : JH} (w : W_X23_high_14 D d Q s0 h) : JW D (d + 1) mX23_high 14 [none] [vI s0] h Q := by
  unfold W_X23_high_14 at w
  obtain ⟨g_1, w⟩ := w
  exact jw_ireturn rfl rfl (g_1.nr) w
def W_X23_high_0 (D : JD) (d : Nat) (Q : JO → JH → Prop) (r0 : Nat) (h : JH) : Prop :=
  r0 ≠ 0 ∧ ((¬ (jfi h 105 r0) = (20 : Int32) → W_X23_high_14 D d Q (0 : Int32) h) ∧ ((jfi h 105 r0) = (20 : Int32) → W_X23_high_14 D d Q (1 : Int32) h))
theorem w_X23_high_0 {D : JD} {d : Nat} {Q : JO → JH → Prop} {r0 : Nat} {h : JH} (w : W_X23_high_0 D d Q r0 h) : JW D (d + 1) mX23_high 0 [some (vR 19 r0)] [] h Q := by
  unfold W_X23_high_0 at w
  refine jw_aload_n (pc' := 1) rfl rfl ?_
  obtain ⟨g_1, w⟩ := w
  refine jw_getI (pc' := 4) (F := 105) rfl rfl rfl rfl g_1 ?_
  refine jw_bipush (pc' := 6) (x := (20 : Int32)) rfl rfl ?_
  refine jw_icmp_ne (tgt := 13) (pc' := 9) rfl rfl (fun c_2 => ?_) (fun c_2 => ?_)
  · replace w := w.1 c_2
    refine jw_iconst (pc' := 14) (x := (0 : Int32)) rfl rfl ?_
    refine jw_gen (ls' := [none]) (st' := [vI (0 : Int32)]) (trivial) (And.intro (Or.inl rfl) (trivial)) ?_
    exact w_X23_high_14 w
  · replace w := w.2 c_2
    refine jw_iconst (pc' := 10) (x := (1 : Int32)) rfl rfl ?_
    refine jw_goto (pc' := 14) rfl rfl ?_
    refine jw_gen (ls' := [none]) (st' := [vI (1 : Int32)]) (trivial) (And.intro (Or.inl rfl) (trivial)) ?_
    exact w_X23_high_14 w
def T_X23_high (D : JD) (d : Nat) (Q : JO → JH → Prop) (r0 : Nat) (h : JH) : Prop := W_X23_high_0 D d Q r0 h
theorem t_X23_high {D : JD} {d : Nat} {Q : JO → JH → Prop} {r0 : Nat} {h : JH} (w : T_X23_high D d Q r0 h) : cX23_high D (d + 1) r0 h Q := by
  unfold T_X23_high at w
  unfold cX23_high
  exact w_X23_high_0 w
